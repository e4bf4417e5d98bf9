/-! the component's methods over the functional heap: decompiled by cgen.py -/
set_option maxRecDepth 100000
def cm_X1_init (x0 : Nat) (Gz : GH) : Option GH :=
  Option.bind (cNewA Gz 102 4000) fun qx8 =>
  Option.bind (cPutR qx8.2 [9] x0 0 (some qx8.1)) fun G10 =>
  Option.bind (cPutI G10 [9] x0 3 (-1)) fun G15 =>
  Option.bind (cNewA G15 100 6) fun qx21 =>
  Option.bind (cPutR qx21.2 [9] x0 10 (some qx21.1)) fun G23 =>
  Option.bind (cNewA G23 101 8) fun qx29 =>
  Option.bind (cPutR qx29.2 [9] x0 11 (some qx29.1)) fun G31 =>
  Option.bind (cNewA G31 100 400) fun qx38 =>
  Option.bind (cPutR qx38.2 [9] x0 12 (some qx38.1)) fun G40 =>
  Option.bind (cNewA G40 100 400) fun qx47 =>
  Option.bind (cPutR qx47.2 [9] x0 13 (some qx47.1)) fun G49 =>
  Option.bind (cNewA G49 100 400) fun qx56 =>
  Option.bind (cPutR qx56.2 [9] x0 14 (some qx56.1)) fun G58 =>
  Option.bind (cNewA G58 100 400) fun qx65 =>
  Option.bind (cPutR qx65.2 [9] x0 15 (some qx65.1)) fun G67 =>
  some G67
def cm_X7_spin (x0 : Nat) (Gz : GH) : Option Nat :=
  Option.bind (cGetR Gz [14] x0 3) fun v1 =>
  some v1
def cm_X13_spin (x0 : Nat) (Gz : GH) : Option Nat :=
  Option.bind (cGetR Gz [20] x0 3) fun v1 =>
  some v1
def cm_X14_spin (x0 : Nat) (Gz : GH) : Option Nat :=
  Option.bind (cGetR Gz [21] x0 3) fun v1 =>
  some v1
def cm_X20_spin (x0 : Nat) (Gz : GH) : Option Nat :=
  Option.bind (cGetR Gz [27] x0 3) fun v1 =>
  some v1
def cm_X21_spin (x0 : Nat) (Gz : GH) : Option Nat :=
  Option.bind (cGetR Gz [28] x0 3) fun v1 =>
  some v1
def cd_Turns_spin (a : Nat) (G : GH) : Option Nat :=
  if cT G a = 14 then cm_X7_spin a G else
  if cT G a = 20 then cm_X13_spin a G else
  if cT G a = 21 then cm_X14_spin a G else
  if cT G a = 27 then cm_X20_spin a G else
  if cT G a = 28 then cm_X21_spin a G else
  none
def cm_X11_hoist (x0 : Nat) (Gz : GH) : Option Nat :=
  Option.bind (cGetR Gz [18] x0 3) fun v1 =>
  some v1
def cm_X13_hoist (x0 : Nat) (Gz : GH) : Option Nat :=
  Option.bind (cGetR Gz [20] x0 4) fun v1 =>
  some v1
def cm_X18_hoist (x0 : Nat) (Gz : GH) : Option Nat :=
  Option.bind (cGetR Gz [25] x0 3) fun v1 =>
  some v1
def cm_X20_hoist (x0 : Nat) (Gz : GH) : Option Nat :=
  Option.bind (cGetR Gz [27] x0 4) fun v1 =>
  some v1
def cd_Lifts_hoist (a : Nat) (G : GH) : Option Nat :=
  if cT G a = 18 then cm_X11_hoist a G else
  if cT G a = 20 then cm_X13_hoist a G else
  if cT G a = 25 then cm_X18_hoist a G else
  if cT G a = 27 then cm_X20_hoist a G else
  none
def cm_J14_checkIndex_J9 (x0 : Int32) (x1 : Int32) (Gz : GH) : Option Int32 :=
  none
def cm_J14_checkIndex (x0 : Int32) (x1 : Int32) (Gz : GH) : Option Int32 :=
  if x0 < 0 then
    (cm_J14_checkIndex_J9 x0 x1 Gz)
  else
    if x0 < x1 then
      (some x0)
    else
      cm_J14_checkIndex_J9 x0 x1 Gz
def cm_J18_checkIndex (x0 : Int32) (x1 : Int32) (Gz : GH) : Option Int32 :=
  Option.bind (cm_J14_checkIndex x0 x1 Gz) fun v3 =>
  some v3
def cm_J6_elementData (x0 : Nat) (x1 : Int32) (Gz : GH) : Option (Option Nat) :=
  Option.bind (cGetR Gz [3] x0 1) fun v1 =>
  Option.bind (cAldR Gz v1 x1) fun v5 =>
  some v5
def cm_J6_get (x0 : Nat) (x1 : Int32) (Gz : GH) : Option (Option Nat) :=
  Option.bind (cGetI Gz [3] x0 2) fun v2 =>
  Option.bind (cm_J18_checkIndex x1 v2 Gz) fun v5 =>
  Option.bind (cCast Gz [3] x0) fun u11 =>
  Option.bind (cm_J6_elementData x0 x1 Gz) fun v11 =>
  some v11
def cm_X8_now (x0 : Nat) (Gz : GH) : Option Nat :=
  Option.bind (cGetR Gz [15] x0 0) fun v1 =>
  Option.bind (cGetI Gz [15] x0 7) fun v5 =>
  Option.bind (cCast Gz [3] v1) fun u8 =>
  Option.bind (cm_J6_get v1 v5 Gz) fun v8 =>
  Option.bind v8 fun b11 =>
  Option.bind (cCast Gz [29] b11) fun u11 =>
  some b11
def cm_X8_settles_J115 (k0 : Nat → GH → Option (Int32 × GH)) (x0 : Nat) (G : GH) : Option (Int32 × GH) :=
  k0 x0 G
def cm_X8_settles_B0 (k0 : Nat → GH → Option (Int32 × GH)) (x0 : Nat) (G : GH) : Option (Int32 × GH) :=
  Option.bind (cCast G [15] x0) fun u1 =>
  Option.bind (cm_X8_now x0 G) fun v1 =>
  Option.bind (cGetI G [29] v1 0) fun v6 =>
  if v6 = 23 then
    (mZr 1 (1, G))
  else
    Option.bind (cGetI G [29] v1 0) fun v17 =>
    if v17 = 21 then
      (Option.bind (cGetI G [29] v1 5) fun v27 =>
      Option.bind (cPutI G [15] x0 7 v27) fun G30 =>
      cm_X8_settles_J115 k0 x0 G30)
    else
      Option.bind (cGetI G [29] v1 0) fun v37 =>
      if v37 = 22 then
        (Option.bind (cGetI G [15] x0 6) fun v47 =>
        Option.bind (cPutI G [15] x0 6 (v47 - 1)) fun G52 =>
        Option.bind (cGetI G52 [29] v1 5) fun v57 =>
        Option.bind (cPutI G52 [15] x0 7 v57) fun G60 =>
        cm_X8_settles_J115 k0 x0 G60)
      else
        Option.bind (cGetI G [29] v1 0) fun v67 =>
        if v67 = 20 then
          (Option.bind (cGetR G [15] x0 3) fun v76 =>
          Option.bind (cGetI G [15] x0 6) fun v80 =>
          Option.bind (cAldI G v76 (v80 - 1)) fun v85 =>
          if v85 = 1 then
            (Option.bind (cGetI G [15] x0 6) fun v92 =>
            Option.bind (cPutI G [15] x0 6 (v92 - 1)) fun G97 =>
            Option.bind (cGetI G97 [15] x0 7) fun v102 =>
            Option.bind (cPutI G97 [15] x0 7 (v102 + 1)) fun G107 =>
            cm_X8_settles_J115 k0 x0 G107)
          else
            mZr 0 (0, G))
        else
          mZr 0 (0, G)
def cm_X8_settles_L0 : Nat → Nat → GH → Option (Int32 × GH)
  | 0 => fun _ _ => none
  | n + 1 => cm_X8_settles_B0 (cm_X8_settles_L0 n)
def cm_X8_settles (x0 : Nat) (Gz : GH) : Option (Int32 × GH) :=
  cm_X8_settles_L0 gF x0 Gz
def cm_X1_tell_J53 (x0 : Nat) (G : GH) : Option GH :=
  Option.bind (cGetI G [9] x0 16) fun v55 =>
  Option.bind (cPutI G [9] x0 16 (v55 + 1)) fun G60 =>
  some G60
def cm_X1_tell (x0 : Nat) (x1 : Int32) (x2 : Int32) (x3 : Int32) (Gz : GH) : Option GH :=
  Option.bind (cGetI Gz [9] x0 16) fun v1 =>
  if 400 ≤ v1 then
    (cm_X1_tell_J53 x0 Gz)
  else
    Option.bind (cGetR Gz [9] x0 12) fun v11 =>
    Option.bind (cGetI Gz [9] x0 16) fun v15 =>
    Option.bind (cAstI Gz v11 v15 x1) fun G19 =>
    Option.bind (cGetR G19 [9] x0 13) fun v21 =>
    Option.bind (cGetI G19 [9] x0 16) fun v25 =>
    Option.bind (cAstI G19 v21 v25 x2) fun G29 =>
    Option.bind (cGetR G29 [9] x0 14) fun v31 =>
    Option.bind (cGetI G29 [9] x0 16) fun v35 =>
    Option.bind (cAstI G29 v31 v35 x3) fun G39 =>
    Option.bind (cGetR G39 [9] x0 15) fun v41 =>
    Option.bind (cGetI G39 [9] x0 16) fun v45 =>
    Option.bind (cGetI G39 [9] x0 5) fun v49 =>
    Option.bind (cAstI G39 v41 v45 v49) fun G52 =>
    cm_X1_tell_J53 x0 G52
def cm_X1_settle (x0 : Nat) (x1 : Int32) (x2 : Nat) (Gz : GH) : Option GH :=
  Option.bind (cCast Gz [15] x2) fun u1 =>
  Option.bind (cm_X8_settles x2 Gz) fun qx1 =>
  if qx1.1 = 0 then
    (some qx1.2)
  else
    Option.bind (cPutI qx1.2 [15] x2 10 1) fun G10 =>
    Option.bind (cGetI G10 [9] x0 5) fun v18 =>
    Option.bind (cCast G10 [9] x0) fun u21 =>
    Option.bind (cm_X1_tell x0 6 x1 v18 G10) fun G21 =>
    some G21
def cm_X1_done (x0 : Nat) (x1 : Int32) (x2 : Nat) (Gz : GH) : Option (Int32 × GH) :=
  Option.bind (cPutZ Gz [15] x2 12 0) fun G2 =>
  Option.bind (cGetI G2 [15] x2 7) fun v7 =>
  Option.bind (cPutI G2 [15] x2 7 (v7 + 1)) fun G12 =>
  Option.bind (cCast G12 [9] x0) fun u18 =>
  Option.bind (cm_X1_settle x0 x1 x2 G12) fun G18 =>
  mZr 1 (1, G18)
def cm_X1_aims_J116 (x0 : Nat) (x1 : Int32) (x3 : Nat) (G : GH) : Option (Int32 × GH) :=
  Option.bind (cCast G [9] x0) fun u119 =>
  Option.bind (cm_X1_done x0 x1 x3 G) fun qx119 =>
  mZr qx119.1 (qx119.1, qx119.2)
def cm_X1_aims_J63 (x0 : Nat) (x1 : Int32) (x2 : Nat) (x3 : Nat) (x4 : Int32) (x5 : Int32) (G : GH) : Option (Int32 × GH) :=
  Option.bind (cGetI G [9] x0 7) fun v64 =>
  if v64 = 0 then
    (if x4 = 0 then
      (Option.bind (cCast G [18, 20, 25, 27] x2) fun u99 =>
      Option.bind (cd_Lifts_hoist x2 G) fun v106 =>
      Option.bind (cPutI G [19] v106 3 x5) fun G113 =>
      cm_X1_aims_J116 x0 x1 x3 G113)
    else
      Option.bind (cCast G [14, 20, 21, 27, 28] x2) fun u78 =>
      Option.bind (cd_Turns_spin x2 G) fun v85 =>
      Option.bind (cPutI G [16] v85 3 x5) fun G92 =>
      cm_X1_aims_J116 x0 x1 x3 G92)
  else
    mZr 1 (1, G)
def cm_X1_aims_J35 (x0 : Nat) (x1 : Int32) (x2 : Nat) (x3 : Nat) (x4 : Int32) (x5 : Int32) (G : GH) : Option (Int32 × GH) :=
  Option.bind (cPutI G [9] x0 7 2) fun G37 =>
  cm_X1_aims_J63 x0 x1 x2 x3 x4 x5 G37
def cm_X1_aims_J43 (x0 : Nat) (x1 : Int32) (x2 : Nat) (x3 : Nat) (x4 : Int32) (x5 : Int32) (G : GH) : Option (Int32 × GH) :=
  if x5 = 0 then
    (cm_X1_aims_J63 x0 x1 x2 x3 x4 x5 G)
  else
    Option.bind (cGetI G [14, 18, 20, 21, 23, 25, 26, 27, 28] x2 2) fun v49 =>
    if v49 ≤ 1000 then
      (cm_X1_aims_J63 x0 x1 x2 x3 x4 x5 G)
    else
      Option.bind (cPutI G [9] x0 7 5) fun G60 =>
      cm_X1_aims_J63 x0 x1 x2 x3 x4 x5 G60
def cm_X1_aims (x0 : Nat) (x1 : Int32) (x2 : Nat) (x3 : Nat) (x4 : Int32) (x5 : Int32) (Gz : GH) : Option (Int32 × GH) :=
  if x4 = 0 then
    (if x5 < 0 then
      (cm_X1_aims_J35 x0 x1 x2 x3 x4 x5 Gz)
    else
      if x5 ≤ 1000 then
        (cm_X1_aims_J43 x0 x1 x2 x3 x4 x5 Gz)
      else
        cm_X1_aims_J35 x0 x1 x2 x3 x4 x5 Gz)
  else
    if x5 < (-100) then
      (cm_X1_aims_J35 x0 x1 x2 x3 x4 x5 Gz)
    else
      if x5 ≤ 100 then
        (cm_X1_aims_J43 x0 x1 x2 x3 x4 x5 Gz)
      else
        cm_X1_aims_J35 x0 x1 x2 x3 x4 x5 Gz
def cm_J9_coder (x0 : Nat) (Gz : GH) : Option Int32 :=
  if (1 : Int32) = 0 then
    (cBr 1 1)
  else
    Option.bind (cGetI Gz [5] x0 1) fun v7 =>
    cBr v7 v7
def cm_J9_length (x0 : Nat) (Gz : GH) : Option Int32 :=
  Option.bind (cGetR Gz [5] x0 0) fun v1 =>
  Option.bind (cLen Gz v1) fun v4 =>
  Option.bind (cCast Gz [5] x0) fun u6 =>
  Option.bind (cm_J9_coder x0 Gz) fun v6 =>
  some (v4 >>> (v6 &&& 31))
def cm_J9_isLatin1 (x0 : Nat) (Gz : GH) : Option Int32 :=
  if (1 : Int32) = 0 then
    (mZr 0 0)
  else
    Option.bind (cGetI Gz [5] x0 1) fun v7 =>
    if v7 = 0 then
      (mZr 1 1)
    else
      mZr 0 0
def cm_J9_checkIndex (x0 : Int32) (x1 : Int32) (Gz : GH) : Option GH :=
  Option.bind (cm_J14_checkIndex x0 x1 Gz) fun v5 =>
  some Gz
def cm_J15_charAt (x0 : Nat) (x1 : Int32) (Gz : GH) : Option (Int32 × GH) :=
  Option.bind (cLen Gz x0) fun v2 =>
  Option.bind (cm_J9_checkIndex x1 v2 Gz) fun G3 =>
  Option.bind (cAldB G3 x0 x1) fun v8 =>
  cCr (((v8 &&& 255).toUInt32 % 65536).toInt32) (((v8 &&& 255).toUInt32 % 65536).toInt32, G3)
def cm_J9_charAt (x0 : Nat) (x1 : Int32) (Gz : GH) : Option (Int32 × GH) :=
  Option.bind (cCast Gz [5] x0) fun u1 =>
  Option.bind (cm_J9_isLatin1 x0 Gz) fun v1 =>
  if v1 = 0 then
    (Option.bind (cGetR Gz [5] x0 0) fun v17 =>
    none)
  else
    Option.bind (cGetR Gz [5] x0 0) fun v8 =>
    Option.bind (cm_J15_charAt v8 x1 Gz) fun qx12 =>
    cCr qx12.1 (qx12.1, qx12.2)
def cm_X1_among_J58 (k8 : Nat → Int64 → Int64 → Int32 → Int32 → GH → Option (Int32 × GH)) (x0 : Nat) (x1 : Int64) (x3 : Int64) (x5 : Int32) (x6 : Int32) (G : GH) : Option (Int32 × GH) :=
  k8 x0 x1 x3 x5 (x6 + 1) G
def cm_X1_among_B8 (k8 : Nat → Int64 → Int64 → Int32 → Int32 → GH → Option (Int32 × GH)) (x0 : Nat) (x1 : Int64) (x3 : Int64) (x5 : Int32) (x6 : Int32) (G : GH) : Option (Int32 × GH) :=
  Option.bind (cCast G [5] x0) fun u11 =>
  Option.bind (cm_J9_length x0 G) fun v11 =>
  if v11 ≤ x6 then
    (some ((-1), G))
  else
    Option.bind (cCast G [5] x0) fun u20 =>
    Option.bind (cm_J9_charAt x0 x6 G) fun qx20 =>
    if qx20.1 = 32 then
      (if (lg_cmp x3 x1) = 0 then
        (some (x5, qx20.2))
      else
        cm_X1_among_J58 k8 x0 x1 0 (x5 + 1) x6 qx20.2)
    else
      Option.bind (cCast qx20.2 [5] x0) fun u35 =>
      Option.bind (cm_J9_charAt x0 x6 qx20.2) fun qx35 =>
      cm_X1_among_J58 k8 x0 x1 ((x3 <<< ((8 : Int32).toInt64 &&& 63)) ||| qx35.1.toInt64) x5 x6 qx35.2
def cm_X1_among_L8 : Nat → Nat → Int64 → Int64 → Int32 → Int32 → GH → Option (Int32 × GH)
  | 0 => fun _ _ _ _ _ _ => none
  | n + 1 => cm_X1_among_B8 (cm_X1_among_L8 n)
def cm_X1_among (x0 : Nat) (x1 : Int64) (Gz : GH) : Option (Int32 × GH) :=
  cm_X1_among_L8 gF x0 x1 0 0 0 Gz
def cm_J6_size (x0 : Nat) (Gz : GH) : Option Int32 :=
  Option.bind (cGetI Gz [3] x0 2) fun v1 =>
  some v1
def cm_X8_clear_B22 (k22 : Nat → Int32 → GH → Option GH) (x0 : Nat) (x1 : Int32) (G : GH) : Option GH :=
  if 6 ≤ x1 then
    (Option.bind (cPutI G [15] x0 6 0) fun G43 =>
    Option.bind (cPutI G43 [15] x0 7 0) fun G48 =>
    Option.bind (cPutZ G48 [15] x0 12 0) fun G53 =>
    Option.bind (cPutI G53 [15] x0 9 0) fun G58 =>
    Option.bind (cPutI G58 [15] x0 10 0) fun G63 =>
    Option.bind (cPutI G63 [15] x0 11 0) fun G68 =>
    some G68)
  else
    Option.bind (cGetR G [15] x0 2) fun v29 =>
    Option.bind (cAstI G v29 x1 0) fun G34 =>
    k22 x0 (x1 + 1) G34
def cm_X8_clear_L22 : Nat → Nat → Int32 → GH → Option GH
  | 0 => fun _ _ _ => none
  | n + 1 => cm_X8_clear_B22 (cm_X8_clear_L22 n)
def cm_X8_clear_B2 (k2 : Nat → Int32 → GH → Option GH) (x0 : Nat) (x1 : Int32) (G : GH) : Option GH :=
  if 4 ≤ x1 then
    (cm_X8_clear_L22 gF x0 0 G)
  else
    Option.bind (cGetR G [15] x0 1) fun v8 =>
    Option.bind (cAstI G v8 x1 0) fun G13 =>
    k2 x0 (x1 + 1) G13
def cm_X8_clear_L2 : Nat → Nat → Int32 → GH → Option GH
  | 0 => fun _ _ _ => none
  | n + 1 => cm_X8_clear_B2 (cm_X8_clear_L2 n)
def cm_X8_clear (x0 : Nat) (Gz : GH) : Option GH :=
  cm_X8_clear_L2 gF x0 0 Gz
def cm_X1_goals_J22 (x0 : Nat) (G : GH) : Option GH :=
  Option.bind (cInst G [18, 20, 25, 27] [14, 21, 23, 26, 28] x0) fun v23 =>
  if v23 = 0 then
    (some G)
  else
    Option.bind (cCast G [18, 20, 25, 27] x0) fun u30 =>
    Option.bind (cd_Lifts_hoist x0 G) fun v35 =>
    Option.bind (cPutI G [19] v35 3 0) fun G41 =>
    some G41
def cm_X1_goals (x0 : Nat) (Gz : GH) : Option GH :=
  Option.bind (cInst Gz [14, 20, 21, 27, 28] [18, 23, 25, 26] x0) fun v1 =>
  if v1 = 0 then
    (cm_X1_goals_J22 x0 Gz)
  else
    Option.bind (cCast Gz [14, 20, 21, 27, 28] x0) fun u8 =>
    Option.bind (cd_Turns_spin x0 Gz) fun v13 =>
    Option.bind (cPutI Gz [16] v13 3 0) fun G19 =>
    cm_X1_goals_J22 x0 G19
def cm_X16_light (x0 : Nat) (Gz : GH) : Option Nat :=
  Option.bind (cGetR Gz [23] x0 3) fun v1 =>
  some v1
def cm_X18_light (x0 : Nat) (Gz : GH) : Option Nat :=
  Option.bind (cGetR Gz [25] x0 4) fun v1 =>
  some v1
def cm_X19_light (x0 : Nat) (Gz : GH) : Option Nat :=
  Option.bind (cGetR Gz [26] x0 4) fun v1 =>
  some v1
def cm_X20_light (x0 : Nat) (Gz : GH) : Option Nat :=
  Option.bind (cGetR Gz [27] x0 6) fun v1 =>
  some v1
def cd_Lamps_light (a : Nat) (G : GH) : Option Nat :=
  if cT G a = 23 then cm_X16_light a G else
  if cT G a = 25 then cm_X18_light a G else
  if cT G a = 26 then cm_X19_light a G else
  if cT G a = 27 then cm_X20_light a G else
  none
def cm_X14_voice (x0 : Nat) (Gz : GH) : Option Nat :=
  Option.bind (cGetR Gz [21] x0 4) fun v1 =>
  some v1
def cm_X18_voice (x0 : Nat) (Gz : GH) : Option Nat :=
  Option.bind (cGetR Gz [25] x0 5) fun v1 =>
  some v1
def cm_X19_voice (x0 : Nat) (Gz : GH) : Option Nat :=
  Option.bind (cGetR Gz [26] x0 5) fun v1 =>
  some v1
def cm_X20_voice (x0 : Nat) (Gz : GH) : Option Nat :=
  Option.bind (cGetR Gz [27] x0 7) fun v1 =>
  some v1
def cd_Sounds_voice (a : Nat) (G : GH) : Option Nat :=
  if cT G a = 21 then cm_X14_voice a G else
  if cT G a = 25 then cm_X18_voice a G else
  if cT G a = 26 then cm_X19_voice a G else
  if cT G a = 27 then cm_X20_voice a G else
  none
def cm_X1_dark_J22 (x0 : Nat) (G : GH) : Option GH :=
  Option.bind (cInst G [21, 25, 26, 27] [14, 18, 20, 23, 28] x0) fun v23 =>
  if v23 = 0 then
    (some G)
  else
    Option.bind (cCast G [21, 25, 26, 27] x0) fun u30 =>
    Option.bind (cd_Sounds_voice x0 G) fun v35 =>
    Option.bind (cPutI G [22] v35 0 0) fun G41 =>
    some G41
def cm_X1_dark (x0 : Nat) (Gz : GH) : Option GH :=
  Option.bind (cInst Gz [23, 25, 26, 27] [14, 18, 20, 21, 28] x0) fun v1 =>
  if v1 = 0 then
    (cm_X1_dark_J22 x0 Gz)
  else
    Option.bind (cCast Gz [23, 25, 26, 27] x0) fun u8 =>
    Option.bind (cd_Lamps_light x0 Gz) fun v13 =>
    Option.bind (cPutI Gz [24] v13 1 0) fun G19 =>
    cm_X1_dark_J22 x0 G19
def cm_X7_bench (x0 : Nat) (Gz : GH) : Option Nat :=
  Option.bind (cGetR Gz [14] x0 4) fun v1 =>
  some v1
def cm_X11_bench (x0 : Nat) (Gz : GH) : Option Nat :=
  Option.bind (cGetR Gz [18] x0 4) fun v1 =>
  some v1
def cm_X13_bench (x0 : Nat) (Gz : GH) : Option Nat :=
  Option.bind (cGetR Gz [20] x0 5) fun v1 =>
  some v1
def cm_X19_bench (x0 : Nat) (Gz : GH) : Option Nat :=
  Option.bind (cGetR Gz [26] x0 3) fun v1 =>
  some v1
def cm_X20_bench (x0 : Nat) (Gz : GH) : Option Nat :=
  Option.bind (cGetR Gz [27] x0 5) fun v1 =>
  some v1
def cm_X21_bench (x0 : Nat) (Gz : GH) : Option Nat :=
  Option.bind (cGetR Gz [28] x0 5) fun v1 =>
  some v1
def cd_Seats_bench (a : Nat) (G : GH) : Option Nat :=
  if cT G a = 14 then cm_X7_bench a G else
  if cT G a = 18 then cm_X11_bench a G else
  if cT G a = 20 then cm_X13_bench a G else
  if cT G a = 26 then cm_X19_bench a G else
  if cT G a = 27 then cm_X20_bench a G else
  if cT G a = 28 then cm_X21_bench a G else
  none
def cm_X10_clear (x0 : Nat) (Gz : GH) : Option GH :=
  Option.bind (cPutI Gz [17] x0 3 0) fun G2 =>
  Option.bind (cPutI G2 [17] x0 4 0) fun G7 =>
  Option.bind (cPutI G7 [17] x0 5 0) fun G12 =>
  Option.bind (cPutI G12 [17] x0 6 0) fun G17 =>
  Option.bind (cPutI G17 [17] x0 7 0) fun G22 =>
  some G22
def cm_X1_begin_J206 (k82 : Nat → Int32 → GH → Option GH) (x0 : Nat) (x1 : Int32) (G : GH) : Option GH :=
  k82 x0 (x1 + 1) G
def cm_X1_begin_J181 (k82 : Nat → Int32 → GH → Option GH) (x0 : Nat) (x1 : Int32) (x2 : Nat) (G : GH) : Option GH :=
  Option.bind (cm_X1_dark x2 G) fun G182 =>
  Option.bind (cInst G182 [14, 18, 20, 26, 27, 28] [21, 23, 25] x2) fun v186 =>
  if v186 = 0 then
    (cm_X1_begin_J206 k82 x0 x1 G182)
  else
    Option.bind (cCast G182 [14, 18, 20, 26, 27, 28] x2) fun u193 =>
    Option.bind (cd_Seats_bench x2 G182) fun v198 =>
    Option.bind (cCast G182 [17] v198) fun u203 =>
    Option.bind (cm_X10_clear v198 G182) fun G203 =>
    cm_X1_begin_J206 k82 x0 x1 G203
def cm_X1_begin_J149 (k82 : Nat → Int32 → GH → Option GH) (x0 : Nat) (x1 : Int32) (x2 : Nat) (G : GH) : Option GH :=
  Option.bind (cInst G [18, 20, 25, 27] [14, 21, 23, 26, 28] x2) fun v150 =>
  if v150 = 0 then
    (cm_X1_begin_J181 k82 x0 x1 x2 G)
  else
    Option.bind (cCast G [18, 20, 25, 27] x2) fun u157 =>
    Option.bind (cd_Lifts_hoist x2 G) fun v162 =>
    Option.bind (cPutI G [19] v162 2 0) fun G168 =>
    Option.bind (cd_Lifts_hoist x2 G168) fun v172 =>
    Option.bind (cPutI G168 [19] v172 4 0) fun G178 =>
    cm_X1_begin_J181 k82 x0 x1 x2 G178
def cm_X1_begin_B82 (k82 : Nat → Int32 → GH → Option GH) (x0 : Nat) (x1 : Int32) (G : GH) : Option GH :=
  Option.bind (cGetQ G [9] x0 4) fun v84 =>
  Option.bind v84 fun b87 =>
  Option.bind (cGetR G [11] b87 10) fun v87 =>
  Option.bind (cCast G [3] v87) fun u90 =>
  Option.bind (cm_J6_size v87 G) fun v90 =>
  if v90 ≤ x1 then
    (some G)
  else
    Option.bind (cGetQ G [9] x0 4) fun v97 =>
    Option.bind v97 fun b100 =>
    Option.bind (cGetR G [11] b100 10) fun v100 =>
    Option.bind (cCast G [3] v100) fun u104 =>
    Option.bind (cm_J6_get v100 x1 G) fun v104 =>
    Option.bind v104 fun b107 =>
    Option.bind (cCast G [14, 18, 20, 21, 23, 25, 26, 27, 28] b107) fun u107 =>
    Option.bind (cPutI G [14, 18, 20, 21, 23, 25, 26, 27, 28] b107 2 0) fun G113 =>
    Option.bind (cGetR G113 [14, 18, 20, 21, 23, 25, 26, 27, 28] b107 1) fun v117 =>
    Option.bind (cCast G113 [15] v117) fun u120 =>
    Option.bind (cm_X8_clear v117 G113) fun G120 =>
    Option.bind (cm_X1_goals b107 G120) fun G124 =>
    Option.bind (cInst G124 [14, 20, 21, 27, 28] [18, 23, 25, 26] b107) fun v128 =>
    if v128 = 0 then
      (cm_X1_begin_J149 k82 x0 x1 b107 G124)
    else
      Option.bind (cCast G124 [14, 20, 21, 27, 28] b107) fun u135 =>
      Option.bind (cd_Turns_spin b107 G124) fun v140 =>
      Option.bind (cPutI G124 [16] v140 2 0) fun G146 =>
      cm_X1_begin_J149 k82 x0 x1 b107 G146
def cm_X1_begin_L82 : Nat → Nat → Int32 → GH → Option GH
  | 0 => fun _ _ _ => none
  | n + 1 => cm_X1_begin_B82 (cm_X1_begin_L82 n)
def cm_X1_begin_B61 (k61 : Nat → Int32 → GH → Option GH) (x0 : Nat) (x1 : Int32) (G : GH) : Option GH :=
  if 8 ≤ x1 then
    (cm_X1_begin_L82 gF x0 0 G)
  else
    Option.bind (cGetR G [9] x0 11) fun v68 =>
    Option.bind (cAstB G v68 x1 0) fun G73 =>
    k61 x0 (x1 + 1) G73
def cm_X1_begin_L61 : Nat → Nat → Int32 → GH → Option GH
  | 0 => fun _ _ _ => none
  | n + 1 => cm_X1_begin_B61 (cm_X1_begin_L61 n)
def cm_X1_begin_B27 (k27 : Nat → Int32 → GH → Option GH) (x0 : Nat) (x1 : Int32) (G : GH) : Option GH :=
  Option.bind (cGetQ G [9] x0 4) fun v29 =>
  Option.bind v29 fun b32 =>
  Option.bind (cGetI G [11] b32 12) fun v32 =>
  if v32 ≤ x1 then
    (cm_X1_begin_L61 gF x0 0 G)
  else
    Option.bind (cGetR G [9] x0 10) fun v39 =>
    Option.bind (cGetQ G [9] x0 4) fun v44 =>
    Option.bind v44 fun b47 =>
    Option.bind (cGetR G [11] b47 11) fun v47 =>
    Option.bind (cAldI G v47 x1) fun v51 =>
    Option.bind (cAstI G v39 x1 v51) fun G52 =>
    k27 x0 (x1 + 1) G52
def cm_X1_begin_L27 : Nat → Nat → Int32 → GH → Option GH
  | 0 => fun _ _ _ => none
  | n + 1 => cm_X1_begin_B27 (cm_X1_begin_L27 n)
def cm_X1_begin (x0 : Nat) (Gz : GH) : Option GH :=
  Option.bind (cPutI Gz [9] x0 5 0) fun G2 =>
  Option.bind (cPutI G2 [9] x0 6 0) fun G7 =>
  Option.bind (cPutI G7 [9] x0 8 0) fun G12 =>
  Option.bind (cPutI G12 [9] x0 9 0) fun G17 =>
  Option.bind (cPutI G17 [9] x0 16 0) fun G22 =>
  cm_X1_begin_L27 gF x0 0 G22
def cm_X1_claims (x0 : Nat) (x1 : Int32) (x2 : Nat) (x3 : Int32) (Gz : GH) : Option (Int32 × GH) :=
  Option.bind (cGetR Gz [15] x2 2) fun v1 =>
  Option.bind (cAldI Gz v1 x3) fun v5 =>
  if v5 = 2 then
    (Option.bind (cPutI Gz [9] x0 7 3) fun G12 =>
    mZr 1 (1, G12))
  else
    Option.bind (cGetR Gz [9] x0 10) fun v18 =>
    Option.bind (cAldI Gz v18 x3) fun v22 =>
    if v22 = 0 then
      (mZr 0 (0, Gz))
    else
      Option.bind (cGetR Gz [9] x0 10) fun v29 =>
      Option.bind (cAldI Gz v29 x3) fun v34 =>
      Option.bind (cAstI Gz v29 x3 (v34 - 1)) fun G37 =>
      Option.bind (cGetR G37 [15] x2 2) fun v39 =>
      Option.bind (cAldI G37 v39 x3) fun v44 =>
      Option.bind (cAstI G37 v39 x3 (v44 + 1)) fun G47 =>
      Option.bind (cCast G47 [9] x0) fun u51 =>
      Option.bind (cm_X1_done x0 x1 x2 G47) fun qx51 =>
      mZr qx51.1 (qx51.1, qx51.2)
def cm_X1_isFair (x0 : Nat) (Gz : GH) : Option (GX Unit) :=
  Option.bind (cGetQ Gz [9] x0 4) fun v1 =>
  if v1 = none then
    (cThrow Gz 1)
  else
    some (.inl ((), Gz))
def cm_X1_there (x0 : Int32) (Gz : GH) : Option (GX Unit) :=
  if x0 = 0 then
    (cThrow Gz 2)
  else
    some (.inl ((), Gz))
def cm_X1_rideAt_J23 (x0 : Nat) (x1 : Int32) (s0 : Int32) (G : GH) : Option (GX Nat) :=
  gXb (cm_X1_there s0 G) fun qx23 =>
  Option.bind (cGetQ qx23.2 [9] x0 4) fun v27 =>
  Option.bind v27 fun b30 =>
  Option.bind (cGetR qx23.2 [11] b30 10) fun v30 =>
  Option.bind (cCast qx23.2 [3] v30) fun u34 =>
  Option.bind (cm_J6_get v30 x1 qx23.2) fun v34 =>
  Option.bind v34 fun b37 =>
  Option.bind (cCast qx23.2 [14, 18, 20, 21, 23, 25, 26, 27, 28] b37) fun u37 =>
  some (.inl (b37, qx23.2))
def cm_X1_rideAt_J22 (x0 : Nat) (x1 : Int32) (G : GH) : Option (GX Nat) :=
  cm_X1_rideAt_J23 x0 x1 0 G
def cm_X1_rideAt (x0 : Nat) (x1 : Int32) (Gz : GH) : Option (GX Nat) :=
  if x1 < 0 then
    (cm_X1_rideAt_J22 x0 x1 Gz)
  else
    Option.bind (cGetQ Gz [9] x0 4) fun v6 =>
    Option.bind v6 fun b9 =>
    Option.bind (cGetR Gz [11] b9 10) fun v9 =>
    Option.bind (cCast Gz [3] v9) fun u12 =>
    Option.bind (cm_J6_size v9 Gz) fun v12 =>
    if v12 ≤ x1 then
      (cm_X1_rideAt_J22 x0 x1 Gz)
    else
      cm_X1_rideAt_J23 x0 x1 1 Gz
def cm_X1_need (x0 : Int32) (Gz : GH) : Option (GX Unit) :=
  if x0 = 0 then
    (cThrow Gz 0)
  else
    some (.inl ((), Gz))
def cm_X10_come (x0 : Nat) (x1 : Int32) (x2 : Int32) (Gz : GH) : Option (Int32 × GH) :=
  Option.bind (cGetI Gz [17] x0 5) fun v1 =>
  if v1 = 30 then
    (mZr 0 (0, Gz))
  else
    Option.bind (cGetI Gz [17] x0 4) fun v12 =>
    Option.bind (cGetI Gz [17] x0 5) fun v16 =>
    Option.bind (cGetR Gz [17] x0 1) fun v25 =>
    Option.bind (cAstI Gz v25 ((v12 + v16) - (v12 + v16) / 30 * 30) x1) fun G30 =>
    Option.bind (cGetR G30 [17] x0 2) fun v32 =>
    Option.bind (cAstI G30 v32 ((v12 + v16) - (v12 + v16) / 30 * 30) x2) fun G37 =>
    Option.bind (cGetI G37 [17] x0 5) fun v40 =>
    Option.bind (cPutI G37 [17] x0 5 (v40 + 1)) fun G45 =>
    Option.bind (cGetI G45 [17] x0 6) fun v50 =>
    Option.bind (cPutI G45 [17] x0 6 (v50 + x2)) fun G55 =>
    mZr 1 (1, G55)
def cm_X1_come_J33 (x0 : Nat) (x2 : Int32) (x3 : Nat) (s0 : Int32) (G : GH) : Option (GX Int32) :=
  gXb (cm_X1_need s0 G) fun qx33 =>
  Option.bind (cCast qx33.2 [14, 18, 20, 26, 27, 28] x3) fun u37 =>
  Option.bind (cd_Seats_bench x3 qx33.2) fun v44 =>
  Option.bind (cGetI qx33.2 [9] x0 5) fun v50 =>
  Option.bind (cCast qx33.2 [17] v44) fun u54 =>
  Option.bind (cm_X10_come v44 v50 x2 qx33.2) fun qx54 =>
  if qx54.1 = 0 then
    (some (.inl ((-1), qx54.2)))
  else
    Option.bind (cd_Seats_bench x3 qx54.2) fun v62 =>
    Option.bind (cGetI qx54.2 [17] v62 6) fun v67 =>
    some (.inl (v67, qx54.2))
def cm_X1_come_J32 (x0 : Nat) (x2 : Int32) (x3 : Nat) (G : GH) : Option (GX Int32) :=
  cm_X1_come_J33 x0 x2 x3 0 G
def cm_X1_come (x0 : Nat) (x1 : Int32) (x2 : Int32) (Gz : GH) : Option (GX Int32) :=
  Option.bind (cCast Gz [9] x0) fun u1 =>
  gXb (cm_X1_isFair x0 Gz) fun qx1 =>
  Option.bind (cCast qx1.2 [9] x0) fun u6 =>
  gXb (cm_X1_rideAt x0 x1 qx1.2) fun qx6 =>
  if x2 < 1 then
    (cm_X1_come_J32 x0 x2 qx6.1 qx6.2)
  else
    if 100 < x2 then
      (cm_X1_come_J32 x0 x2 qx6.1 qx6.2)
    else
      Option.bind (cInst qx6.2 [14, 18, 20, 26, 27, 28] [21, 23, 25] qx6.1) fun v22 =>
      if v22 = 0 then
        (cm_X1_come_J32 x0 x2 qx6.1 qx6.2)
      else
        cm_X1_come_J33 x0 x2 qx6.1 1 qx6.2
def cm_X1_count_J14 (x0 : Nat) (x1 : Int32) (s0 : Int32) (G : GH) : Option (GX Int32) :=
  gXb (cm_X1_there s0 G) fun qx14 =>
  if x1 = 4 then
    (Option.bind (cGetI qx14.2 [9] x0 1) fun v23 =>
    some (.inl (v23, qx14.2)))
  else
    Option.bind (cGetQ qx14.2 [9] x0 4) fun v28 =>
    if v28 = none then
      (some (.inl (0, qx14.2)))
    else
      if x1 = 0 then
        (Option.bind (cGetQ qx14.2 [9] x0 4) fun v41 =>
        Option.bind v41 fun b44 =>
        Option.bind (cGetR qx14.2 [11] b44 10) fun v44 =>
        Option.bind (cCast qx14.2 [3] v44) fun u47 =>
        Option.bind (cm_J6_size v44 qx14.2) fun v47 =>
        some (.inl (v47, qx14.2)))
      else
        if x1 = 1 then
          (Option.bind (cGetQ qx14.2 [9] x0 4) fun v59 =>
          Option.bind v59 fun b62 =>
          Option.bind (cGetI qx14.2 [11] b62 12) fun v62 =>
          some (.inl (v62, qx14.2)))
        else
          if x1 = 2 then
            (Option.bind (cGetQ qx14.2 [9] x0 4) fun v74 =>
            Option.bind v74 fun b77 =>
            Option.bind (cGetI qx14.2 [11] b77 13) fun v77 =>
            some (.inl (v77, qx14.2)))
          else
            Option.bind (cGetQ qx14.2 [9] x0 4) fun v84 =>
            Option.bind v84 fun b87 =>
            Option.bind (cGetI qx14.2 [11] b87 14) fun v87 =>
            some (.inl (v87, qx14.2))
def cm_X1_count_J13 (x0 : Nat) (x1 : Int32) (G : GH) : Option (GX Int32) :=
  cm_X1_count_J14 x0 x1 0 G
def cm_X1_count (x0 : Nat) (x1 : Int32) (Gz : GH) : Option (GX Int32) :=
  if x1 < 0 then
    (cm_X1_count_J13 x0 x1 Gz)
  else
    if 4 < x1 then
      (cm_X1_count_J13 x0 x1 Gz)
    else
      cm_X1_count_J14 x0 x1 1 Gz
def cm_X25_of (x0 : Nat) (x1 : Nat) (x2 : Nat) (Gz : GH) : Option Int32 :=
  Option.bind (cGetI Gz [31] x0 0) fun v1 =>
  some v1
def cm_X1_measured (x0 : Nat) (x1 : Int32) (Gz : GH) : Option Int32 :=
  if x1 = 0 then
    (Option.bind (cInst Gz [14, 20, 21, 27, 28] [18, 23, 25, 26] x0) fun v41 =>
    if v41 = 0 then
      (some 0)
    else
      Option.bind (cCast Gz [14, 20, 21, 27, 28] x0) fun u48 =>
      Option.bind (cd_Turns_spin x0 Gz) fun v53 =>
      Option.bind (cGetI Gz [16] v53 2) fun v58 =>
      some v58)
  else
  if x1 = 1 then
    (Option.bind (cInst Gz [18, 20, 25, 27] [14, 21, 23, 26, 28] x0) fun v67 =>
    if v67 = 0 then
      (some 0)
    else
      Option.bind (cCast Gz [18, 20, 25, 27] x0) fun u74 =>
      Option.bind (cd_Lifts_hoist x0 Gz) fun v79 =>
      Option.bind (cGetI Gz [19] v79 2) fun v84 =>
      some v84)
  else
  if x1 = 2 then
    (Option.bind (cInst Gz [14, 18, 20, 26, 27, 28] [21, 23, 25] x0) fun v93 =>
    if v93 = 0 then
      (some 0)
    else
      Option.bind (cCast Gz [14, 18, 20, 26, 27, 28] x0) fun u100 =>
      Option.bind (cd_Seats_bench x0 Gz) fun v105 =>
      Option.bind (cGetI Gz [17] v105 3) fun v110 =>
      some v110)
  else
  if x1 = 3 then
    (Option.bind (cInst Gz [23, 25, 26, 27] [14, 18, 20, 21, 28] x0) fun v119 =>
    if v119 = 0 then
      (some 0)
    else
      Option.bind (cCast Gz [23, 25, 26, 27] x0) fun u126 =>
      Option.bind (cd_Lamps_light x0 Gz) fun v131 =>
      Option.bind (cGetI Gz [24] v131 1) fun v136 =>
      some v136)
  else
  if x1 = 4 then
    (Option.bind (cInst Gz [21, 25, 26, 27] [14, 18, 20, 23, 28] x0) fun v145 =>
    if v145 = 0 then
      (some 0)
    else
      Option.bind (cCast Gz [21, 25, 26, 27] x0) fun u152 =>
      Option.bind (cd_Sounds_voice x0 Gz) fun v157 =>
      Option.bind (cGetI Gz [22] v157 0) fun v162 =>
      some v162)
  else
  if x1 = 5 then
    (Option.bind (cGetI Gz [14, 18, 20, 21, 23, 25, 26, 27, 28] x0 2) fun v171 =>
    some v171)
  else
    Option.bind (cInst Gz [14, 18, 20, 26, 27, 28] [21, 23, 25] x0) fun v176 =>
    if v176 = 0 then
      (some 0)
    else
      Option.bind (cCast Gz [14, 18, 20, 26, 27, 28] x0) fun u183 =>
      Option.bind (cd_Seats_bench x0 Gz) fun v188 =>
      Option.bind (cGetI Gz [17] v188 6) fun v193 =>
      some v193
def cm_X26_of_J15 (x0 : Nat) (s0 : Option Nat) (Gz : GH) : Option Int32 :=
  Option.bind (cGetI Gz [32] x0 0) fun v16 =>
  Option.bind s0 fun b19 =>
  Option.bind (cm_X1_measured b19 v16 Gz) fun v19 =>
  some v19
def cm_X26_of (x0 : Nat) (x1 : Nat) (x2 : Nat) (Gz : GH) : Option Int32 :=
  Option.bind (cGetQ Gz [32] x0 3) fun v1 =>
  if v1 = none then
    (cm_X26_of_J15 x0 (some x2) Gz)
  else
    Option.bind (cGetQ Gz [32] x0 3) fun v12 =>
    cm_X26_of_J15 x0 v12 Gz
def cm_X27_of (x0 : Nat) (x1 : Nat) (x2 : Nat) (Gz : GH) : Option Int32 :=
  Option.bind (cGetR Gz [14, 18, 20, 21, 23, 25, 26, 27, 28] x2 1) fun v1 =>
  Option.bind (cGetR Gz [15] v1 1) fun v4 =>
  Option.bind (cGetI Gz [33] x0 0) fun v8 =>
  Option.bind (cAldI Gz v4 v8) fun v11 =>
  some v11
def cm_X28_of (x0 : Nat) (x1 : Nat) (x2 : Nat) (Gz : GH) : Option Int32 :=
  Option.bind (cGetI Gz [34] x0 0) fun v1 =>
  if v1 = 0 then
    (Option.bind (cGetR Gz [14, 18, 20, 21, 23, 25, 26, 27, 28] x2 1) fun v8 =>
    Option.bind (cGetI Gz [15] v8 9) fun v11 =>
    some v11)
  else
    Option.bind (cGetI Gz [34] x0 0) fun v18 =>
    if v18 = 1 then
      (Option.bind (cGetI Gz [9] x1 5) fun v26 =>
      some v26)
    else
      Option.bind (cGetI Gz [9] x1 6) fun v33 =>
      some v33
def cd_Expr_of (rc : (Nat → Nat → Nat → GH → Option (Int32 × GH)) × (Nat → Nat → Nat → GH → Option (Int32 × GH))) (a : Nat) (y0 : Nat) (y1 : Nat) (G : GH) : Option (Int32 × GH) :=
  if cT G a = 30 then rc.1 a y0 y1 G else
  if cT G a = 31 then Option.map (fun r => (r, G)) (cm_X25_of a y0 y1 G) else
  if cT G a = 32 then Option.map (fun r => (r, G)) (cm_X26_of a y0 y1 G) else
  if cT G a = 33 then Option.map (fun r => (r, G)) (cm_X27_of a y0 y1 G) else
  if cT G a = 34 then Option.map (fun r => (r, G)) (cm_X28_of a y0 y1 G) else
  if cT G a = 35 then rc.2 a y0 y1 G else
  none
def cm_X24_of_B (rc : (Nat → Nat → Nat → GH → Option (Int32 × GH)) × (Nat → Nat → Nat → GH → Option (Int32 × GH))) (x0 : Nat) (x1 : Nat) (x2 : Nat) (Gz : GH) : Option (Int32 × GH) :=
  Option.bind (cGetR Gz [30] x0 0) fun v1 =>
  Option.bind (cd_Expr_of rc v1 x1 x2 Gz) fun qx6 =>
  some ((-qx6.1), qx6.2)
def cm_X29_of_J138 (rc : (Nat → Nat → Nat → GH → Option (Int32 × GH)) × (Nat → Nat → Nat → GH → Option (Int32 × GH))) (k13 : Nat → Nat → Nat → Int32 → Int32 → GH → Option (Int32 × GH)) (x0 : Nat) (x1 : Nat) (x2 : Nat) (x3 : Int32) (x4 : Int32) (G : GH) : Option (Int32 × GH) :=
  k13 x0 x1 x2 x3 (x4 + 1) G
def cm_X29_of_J137 (rc : (Nat → Nat → Nat → GH → Option (Int32 × GH)) × (Nat → Nat → Nat → GH → Option (Int32 × GH))) (k13 : Nat → Nat → Nat → Int32 → Int32 → GH → Option (Int32 × GH)) (x0 : Nat) (x1 : Nat) (x2 : Nat) (x4 : Int32) (s0 : Int32) (G : GH) : Option (Int32 × GH) :=
  cm_X29_of_J138 rc k13 x0 x1 x2 s0 x4 G
def cm_X29_of_J91 (rc : (Nat → Nat → Nat → GH → Option (Int32 × GH)) × (Nat → Nat → Nat → GH → Option (Int32 × GH))) (k13 : Nat → Nat → Nat → Int32 → Int32 → GH → Option (Int32 × GH)) (x0 : Nat) (x1 : Nat) (x2 : Nat) (x3 : Int32) (x4 : Int32) (x5 : Int32) (x6 : Int32) (G : GH) : Option (Int32 × GH) :=
  if x6 = 43 then
    (cm_X29_of_J137 rc k13 x0 x1 x2 x4 (x3 + x5) G)
  else
    if x6 = 45 then
      (cm_X29_of_J137 rc k13 x0 x1 x2 x4 (x3 - x5) G)
    else
      if x6 = 42 then
        (cm_X29_of_J137 rc k13 x0 x1 x2 x4 (x3 * x5) G)
      else
        Option.bind (mDiv x3 x5) fun v136 =>
        cm_X29_of_J137 rc k13 x0 x1 x2 x4 v136 G
def cm_X29_of_B13 (rc : (Nat → Nat → Nat → GH → Option (Int32 × GH)) × (Nat → Nat → Nat → GH → Option (Int32 × GH))) (k13 : Nat → Nat → Nat → Int32 → Int32 → GH → Option (Int32 × GH)) (x0 : Nat) (x1 : Nat) (x2 : Nat) (x3 : Int32) (x4 : Int32) (G : GH) : Option (Int32 × GH) :=
  Option.bind (cGetR G [35] x0 1) fun v16 =>
  Option.bind (cCast G [3] v16) fun u19 =>
  Option.bind (cm_J6_size v16 G) fun v19 =>
  if v19 ≤ x4 then
    (some (x3, G))
  else
    Option.bind (cGetI G [9] x1 7) fun v26 =>
    if v26 = 0 then
      (Option.bind (cGetR G [35] x0 1) fun v33 =>
      Option.bind (cCast G [3] v33) fun u38 =>
      Option.bind (cm_J6_get v33 x4 G) fun v38 =>
      Option.bind v38 fun b41 =>
      Option.bind (cCast G [30, 31, 32, 33, 34, 35] b41) fun u41 =>
      Option.bind (cd_Expr_of rc b41 x1 x2 G) fun qx46 =>
      Option.bind (cGetI qx46.2 [9] x1 7) fun v52 =>
      if v52 = 0 then
        (Option.bind (cGetR qx46.2 [35] x0 2) fun v62 =>
        Option.bind (cAldB qx46.2 v62 x4) fun v67 =>
        if v67 = 47 then
          (if qx46.1 = 0 then
            (Option.bind (cPutI qx46.2 [9] x1 7 6) fun G85 =>
            cm_X29_of_J138 rc k13 x0 x1 x2 x3 x4 G85)
          else
            cm_X29_of_J91 rc k13 x0 x1 x2 x3 x4 qx46.1 v67 qx46.2)
        else
          cm_X29_of_J91 rc k13 x0 x1 x2 x3 x4 qx46.1 v67 qx46.2)
      else
        some (x3, qx46.2))
    else
      some (x3, G)
def cm_X29_of_L13 (rc : (Nat → Nat → Nat → GH → Option (Int32 × GH)) × (Nat → Nat → Nat → GH → Option (Int32 × GH))) : Nat → Nat → Nat → Nat → Int32 → Int32 → GH → Option (Int32 × GH)
  | 0 => fun _ _ _ _ _ _ => none
  | n + 1 => cm_X29_of_B13 rc (cm_X29_of_L13 rc n)
def cm_X29_of_B (rc : (Nat → Nat → Nat → GH → Option (Int32 × GH)) × (Nat → Nat → Nat → GH → Option (Int32 × GH))) (x0 : Nat) (x1 : Nat) (x2 : Nat) (Gz : GH) : Option (Int32 × GH) :=
  Option.bind (cGetR Gz [35] x0 0) fun v1 =>
  Option.bind (cd_Expr_of rc v1 x1 x2 Gz) fun qx6 =>
  cm_X29_of_L13 rc gF x0 x1 x2 qx6.1 0 qx6.2
def cm_S60 : Nat → (Nat → Nat → Nat → GH → Option (Int32 × GH)) × (Nat → Nat → Nat → GH → Option (Int32 × GH))
  | 0 => (fun _ _ _ _ => none, fun _ _ _ _ => none)
  | d + 1 => (cm_X24_of_B (cm_S60 d), cm_X29_of_B (cm_S60 d))
def cm_X24_of (d : Nat) : Nat → Nat → Nat → GH → Option (Int32 × GH) := (cm_S60 d).1
def cm_X29_of (d : Nat) : Nat → Nat → Nat → GH → Option (Int32 × GH) := (cm_S60 d).2
def cm_X1_shines_J70 (x0 : Nat) (x1 : Int32) (x3 : Nat) (G : GH) : Option (Int32 × GH) :=
  Option.bind (cCast G [9] x0) fun u73 =>
  Option.bind (cm_X1_done x0 x1 x3 G) fun qx73 =>
  mZr qx73.1 (qx73.1, qx73.2)
def cm_X1_shines_J17 (x0 : Nat) (x1 : Int32) (x2 : Nat) (x3 : Nat) (x4 : Int32) (x5 : Int32) (G : GH) : Option (Int32 × GH) :=
  Option.bind (cGetI G [9] x0 7) fun v18 =>
  if v18 = 0 then
    (if x4 = 0 then
      (Option.bind (cCast G [21, 25, 26, 27] x2) fun u53 =>
      Option.bind (cd_Sounds_voice x2 G) fun v60 =>
      Option.bind (cPutI G [22] v60 0 x5) fun G67 =>
      cm_X1_shines_J70 x0 x1 x3 G67)
    else
      Option.bind (cCast G [23, 25, 26, 27] x2) fun u32 =>
      Option.bind (cd_Lamps_light x2 G) fun v39 =>
      Option.bind (cPutI G [24] v39 1 x5) fun G46 =>
      cm_X1_shines_J70 x0 x1 x3 G46)
  else
    mZr 1 (1, G)
def cm_X1_shines_J12 (x0 : Nat) (x1 : Int32) (x2 : Nat) (x3 : Nat) (x4 : Int32) (x5 : Int32) (G : GH) : Option (Int32 × GH) :=
  Option.bind (cPutI G [9] x0 7 2) fun G14 =>
  cm_X1_shines_J17 x0 x1 x2 x3 x4 x5 G14
def cm_X1_shines (x0 : Nat) (x1 : Int32) (x2 : Nat) (x3 : Nat) (x4 : Int32) (x5 : Int32) (Gz : GH) : Option (Int32 × GH) :=
  if x5 < 0 then
    (cm_X1_shines_J12 x0 x1 x2 x3 x4 x5 Gz)
  else
    if x5 ≤ 100 then
      (cm_X1_shines_J17 x0 x1 x2 x3 x4 x5 Gz)
    else
      cm_X1_shines_J12 x0 x1 x2 x3 x4 x5 Gz
def cm_X34_isStill (x0 : Nat) (Gz : GH) : Option Int32 :=
  Option.bind (cd_Turns_spin x0 Gz) fun v1 =>
  Option.bind (cGetI Gz [16] v1 2) fun v6 =>
  if v6 = 0 then
    (mZr 1 1)
  else
    mZr 0 0
def cd_Turns_isStill (a : Nat) (G : GH) : Option Int32 :=
  if cT G a = 14 then cm_X34_isStill a G else
  if cT G a = 20 then cm_X34_isStill a G else
  if cT G a = 21 then cm_X34_isStill a G else
  if cT G a = 27 then cm_X34_isStill a G else
  if cT G a = 28 then cm_X34_isStill a G else
  none
def cm_X34_isCalm (x0 : Nat) (Gz : GH) : Option Int32 :=
  Option.bind (cd_Turns_isStill x0 Gz) fun v1 =>
  mZr v1 v1
def cm_X36_isDown (x0 : Nat) (Gz : GH) : Option Int32 :=
  Option.bind (cd_Lifts_hoist x0 Gz) fun v1 =>
  Option.bind (cGetI Gz [19] v1 2) fun v6 =>
  if v6 = 0 then
    (mZr 1 1)
  else
    mZr 0 0
def cd_Lifts_isDown (a : Nat) (G : GH) : Option Int32 :=
  if cT G a = 18 then cm_X36_isDown a G else
  if cT G a = 20 then cm_X36_isDown a G else
  if cT G a = 25 then cm_X36_isDown a G else
  if cT G a = 27 then cm_X36_isDown a G else
  none
def cm_X36_isCalm (x0 : Nat) (Gz : GH) : Option Int32 :=
  Option.bind (cd_Lifts_isDown x0 Gz) fun v1 =>
  mZr v1 v1
def cm_X13_isCalm (x0 : Nat) (Gz : GH) : Option Int32 :=
  Option.bind (cd_Turns_isStill x0 Gz) fun v5 =>
  if v5 = 0 then
    (mZr 0 0)
  else
    Option.bind (cd_Lifts_isDown x0 Gz) fun v14 =>
    if v14 = 0 then
      (mZr 0 0)
    else
      mZr 1 1
def cm_X14_isCalm (x0 : Nat) (Gz : GH) : Option Int32 :=
  mZr 1 1
def cm_X40_isCalm (x0 : Nat) (Gz : GH) : Option Int32 :=
  mZr 1 1
def cm_X18_isCalm (x0 : Nat) (Gz : GH) : Option Int32 :=
  Option.bind (cd_Lifts_isDown x0 Gz) fun v3 =>
  mZr v3 v3
def cm_X37_isSoft (x0 : Nat) (Gz : GH) : Option Int32 :=
  Option.bind (cd_Sounds_voice x0 Gz) fun v1 =>
  Option.bind (cGetI Gz [22] v1 0) fun v6 =>
  if 50 < v6 then
    (mZr 0 0)
  else
    mZr 1 1
def cd_Sounds_isSoft (a : Nat) (G : GH) : Option Int32 :=
  if cT G a = 21 then cm_X37_isSoft a G else
  if cT G a = 25 then cm_X37_isSoft a G else
  if cT G a = 26 then cm_X37_isSoft a G else
  if cT G a = 27 then cm_X37_isSoft a G else
  none
def cm_X19_isCalm (x0 : Nat) (Gz : GH) : Option Int32 :=
  Option.bind (cGetR Gz [26] x0 4) fun v3 =>
  Option.bind (cGetI Gz [24] v3 1) fun v6 =>
  if v6 < 50 then
    (mZr 0 0)
  else
    Option.bind (cd_Sounds_isSoft x0 Gz) fun v15 =>
    if v15 = 0 then
      (mZr 0 0)
    else
      mZr 1 1
def cm_X20_isCalm (x0 : Nat) (Gz : GH) : Option Int32 :=
  Option.bind (cd_Turns_isStill x0 Gz) fun v7 =>
  if v7 = 0 then
    (mZr 0 0)
  else
    Option.bind (cd_Lifts_isDown x0 Gz) fun v16 =>
    if v16 = 0 then
      (mZr 0 0)
    else
      Option.bind (cd_Sounds_isSoft x0 Gz) fun v25 =>
      if v25 = 0 then
        (mZr 0 0)
      else
        Option.bind (cGetR Gz [27] x0 6) fun v34 =>
        Option.bind (cGetI Gz [24] v34 1) fun v37 =>
        if v37 < 20 then
          (mZr 0 0)
        else
          mZr 1 1
def cd_Machine_isCalm (a : Nat) (G : GH) : Option Int32 :=
  if cT G a = 14 then cm_X34_isCalm a G else
  if cT G a = 18 then cm_X36_isCalm a G else
  if cT G a = 20 then cm_X13_isCalm a G else
  if cT G a = 21 then cm_X14_isCalm a G else
  if cT G a = 23 then cm_X40_isCalm a G else
  if cT G a = 25 then cm_X18_isCalm a G else
  if cT G a = 26 then cm_X19_isCalm a G else
  if cT G a = 27 then cm_X20_isCalm a G else
  if cT G a = 28 then cm_X34_isCalm a G else
  none
def cm_X10_shift (x0 : Nat) (Gz : GH) : Option GH :=
  Option.bind (cGetI Gz [17] x0 4) fun v2 =>
  Option.bind (cPutI Gz [17] x0 4 ((v2 + 1) - (v2 + 1) / 30 * 30)) fun G10 =>
  Option.bind (cGetI G10 [17] x0 5) fun v15 =>
  Option.bind (cPutI G10 [17] x0 5 (v15 - 1)) fun G20 =>
  some G20
def cm_X10_board_J136 (k46 : Nat → Int32 → Int32 → Int32 → GH → Option (Int32 × GH)) (x0 : Nat) (x1 : Int32) (x2 : Int32) (x3 : Int32) (G : GH) : Option (Int32 × GH) :=
  k46 x0 x1 x2 x3 G
def cm_X10_board_J76 (k46 : Nat → Int32 → Int32 → Int32 → GH → Option (Int32 × GH)) (x0 : Nat) (x1 : Int32) (x2 : Int32) (x3 : Int32) (s0 : Int32) (G : GH) : Option (Int32 × GH) :=
  Option.bind (cGetI G [17] x0 7) fun v80 =>
  Option.bind (cGetR G [17] x0 1) fun v87 =>
  Option.bind (cGetI G [17] x0 4) fun v91 =>
  Option.bind (cAldI G v87 v91) fun v94 =>
  Option.bind (cPutI G [17] x0 7 (v80 + (s0 * (x1 - v94)))) fun G98 =>
  Option.bind (cGetR G98 [17] x0 2) fun v102 =>
  Option.bind (cGetI G98 [17] x0 4) fun v106 =>
  Option.bind (cAldI G98 v102 v106) fun v110 =>
  Option.bind (cAstI G98 v102 v106 (v110 - s0)) fun G114 =>
  Option.bind (cGetR G114 [17] x0 2) fun v121 =>
  Option.bind (cGetI G114 [17] x0 4) fun v125 =>
  Option.bind (cAldI G114 v121 v125) fun v128 =>
  if v128 = 0 then
    (Option.bind (cCast G114 [17] x0) fun u133 =>
    Option.bind (cm_X10_shift x0 G114) fun G133 =>
    cm_X10_board_J136 k46 x0 x1 x2 (x3 - s0) G133)
  else
    cm_X10_board_J136 k46 x0 x1 x2 (x3 - s0) G114
def cm_X10_board_B46 (k46 : Nat → Int32 → Int32 → Int32 → GH → Option (Int32 × GH)) (x0 : Nat) (x1 : Int32) (x2 : Int32) (x3 : Int32) (G : GH) : Option (Int32 × GH) :=
  if x3 ≤ 0 then
    (Option.bind (cGetI G [17] x0 6) fun v141 =>
    Option.bind (cPutI G [17] x0 6 (v141 - x2)) fun G146 =>
    Option.bind (cGetI G146 [17] x0 3) fun v151 =>
    Option.bind (cPutI G146 [17] x0 3 (v151 + x2)) fun G156 =>
    some (x2, G156))
  else
    Option.bind (cGetR G [17] x0 2) fun v51 =>
    Option.bind (cGetI G [17] x0 4) fun v55 =>
    Option.bind (cAldI G v51 v55) fun v58 =>
    if x3 ≤ v58 then
      (cm_X10_board_J76 k46 x0 x1 x2 x3 x3 G)
    else
      Option.bind (cGetR G [17] x0 2) fun v64 =>
      Option.bind (cGetI G [17] x0 4) fun v68 =>
      Option.bind (cAldI G v64 v68) fun v71 =>
      cm_X10_board_J76 k46 x0 x1 x2 x3 v71 G
def cm_X10_board_L46 : Nat → Nat → Int32 → Int32 → Int32 → GH → Option (Int32 × GH)
  | 0 => fun _ _ _ _ _ => none
  | n + 1 => cm_X10_board_B46 (cm_X10_board_L46 n)
def cm_X10_board_J43 (x0 : Nat) (x1 : Int32) (s0 : Int32) (G : GH) : Option (Int32 × GH) :=
  cm_X10_board_L46 gF x0 x1 s0 s0 G
def cm_X10_board_J16 (x0 : Nat) (x1 : Int32) (s0 : Int32) (G : GH) : Option (Int32 × GH) :=
  Option.bind (cGetI G [17] x0 0) fun v18 =>
  Option.bind (cGetI G [17] x0 3) fun v22 =>
  if s0 ≤ (v18 - v22) then
    (cm_X10_board_J43 x0 x1 s0 G)
  else
    Option.bind (cGetI G [17] x0 0) fun v31 =>
    Option.bind (cGetI G [17] x0 3) fun v35 =>
    cm_X10_board_J43 x0 x1 (v31 - v35) G
def cm_X10_board (x0 : Nat) (x1 : Int32) (Gz : GH) : Option (Int32 × GH) :=
  Option.bind (cGetI Gz [17] x0 6) fun v1 =>
  if 5 ≤ v1 then
    (cm_X10_board_J16 x0 x1 5 Gz)
  else
    Option.bind (cGetI Gz [17] x0 6) fun v9 =>
    cm_X10_board_J16 x0 x1 v9 Gz
def cm_X39_board (x0 : Nat) (x1 : Int32) (Gz : GH) : Option (Int32 × GH) :=
  Option.bind (cd_Seats_bench x0 Gz) fun v1 =>
  Option.bind (cCast Gz [17] v1) fun u7 =>
  Option.bind (cm_X10_board v1 x1 Gz) fun qx7 =>
  some (qx7.1, qx7.2)
def cd_Seats_board (a : Nat) (y0 : Int32) (G : GH) : Option (Int32 × GH) :=
  if cT G a = 14 then cm_X39_board a y0 G else
  if cT G a = 18 then cm_X39_board a y0 G else
  if cT G a = 20 then cm_X39_board a y0 G else
  if cT G a = 26 then cm_X39_board a y0 G else
  if cT G a = 27 then cm_X39_board a y0 G else
  if cT G a = 28 then cm_X39_board a y0 G else
  none
def cm_X1_lasts_J114 (x0 : Nat) (x1 : Int32) (x3 : Nat) (G : GH) : Option (Int32 × GH) :=
  Option.bind (cGetI G [15] x3 8) fun v116 =>
  Option.bind (cPutI G [15] x3 8 (v116 - 1)) fun G121 =>
  Option.bind (cGetI G121 [15] x3 8) fun v125 =>
  if v125 = 0 then
    (Option.bind (cCast G121 [9] x0) fun u134 =>
    Option.bind (cm_X1_done x0 x1 x3 G121) fun qx134 =>
    mZr 0 (0, qx134.2))
  else
    mZr 0 (0, G121)
def cm_X1_lasts_J65 (x0 : Nat) (x1 : Int32) (x2 : Nat) (x3 : Nat) (x4 : Int32) (G : GH) : Option (Int32 × GH) :=
  if x4 = 6 then
    (Option.bind (cGetI G [14, 18, 20, 21, 23, 25, 26, 27, 28] x2 2) fun v75 =>
    Option.bind (cPutI G [14, 18, 20, 21, 23, 25, 26, 27, 28] x2 2 (if 0 < (v75 - 50) then (v75 - 50) else 0)) fun G84 =>
    cm_X1_lasts_J114 x0 x1 x3 G84)
  else
    if x4 = 4 then
      (Option.bind (cCast G [14, 18, 20, 26, 27, 28] x2) fun u97 =>
      Option.bind (cGetI G [9] x0 5) fun v105 =>
      Option.bind (cd_Seats_board x2 v105 G) fun qx108 =>
      cm_X1_lasts_J114 x0 x1 x3 qx108.2)
    else
      cm_X1_lasts_J114 x0 x1 x3 G
def cm_X1_lasts_J47 (x0 : Nat) (x1 : Int32) (x2 : Nat) (x3 : Nat) (x4 : Int32) (x5 : Int32) (G : GH) : Option (Int32 × GH) :=
  Option.bind (cGetI G [15] x3 12) fun v48 =>
  if v48 = 0 then
    (Option.bind (cPutZ G [15] x3 12 1) fun G56 =>
    Option.bind (cPutI G56 [15] x3 8 x5) fun G62 =>
    cm_X1_lasts_J65 x0 x1 x2 x3 x4 G62)
  else
    cm_X1_lasts_J65 x0 x1 x2 x3 x4 G
def cm_X1_lasts_J20 (x0 : Nat) (x1 : Int32) (x2 : Nat) (x3 : Nat) (x4 : Int32) (x5 : Int32) (G : GH) : Option (Int32 × GH) :=
  if x4 = 7 then
    (cm_X1_lasts_J47 x0 x1 x2 x3 x4 x5 G)
  else
    Option.bind (cd_Machine_isCalm x2 G) fun v32 =>
    if v32 = 0 then
      (Option.bind (cPutI G [9] x0 7 1) fun G42 =>
      mZr 1 (1, G42))
    else
      cm_X1_lasts_J47 x0 x1 x2 x3 x4 x5 G
def cm_X1_lasts (x0 : Nat) (x1 : Int32) (x2 : Nat) (x3 : Nat) (x4 : Int32) (x5 : Int32) (Gz : GH) : Option (Int32 × GH) :=
  Option.bind (cGetI Gz [15] x3 12) fun v1 =>
  if v1 = 0 then
    (if 1 ≤ x5 then
      (cm_X1_lasts_J20 x0 x1 x2 x3 x4 x5 Gz)
    else
      Option.bind (cCast Gz [9] x0) fun u16 =>
      Option.bind (cm_X1_done x0 x1 x3 Gz) fun qx16 =>
      mZr qx16.1 (qx16.1, qx16.2))
  else
    cm_X1_lasts_J20 x0 x1 x2 x3 x4 x5 Gz
def cm_X1_unloads_J73 (x0 : Nat) (x1 : Int32) (x3 : Nat) (G : GH) : Option (Int32 × GH) :=
  Option.bind (cCast G [9] x0) fun u76 =>
  Option.bind (cm_X1_done x0 x1 x3 G) fun qx76 =>
  mZr qx76.1 (qx76.1, qx76.2)
def cm_X1_unloads (x0 : Nat) (x1 : Int32) (x2 : Nat) (x3 : Nat) (Gz : GH) : Option (Int32 × GH) :=
  Option.bind (cd_Machine_isCalm x2 Gz) fun v5 =>
  if v5 = 0 then
    (Option.bind (cPutI Gz [9] x0 7 1) fun G15 =>
    mZr 1 (1, G15))
  else
    Option.bind (cCast Gz [14, 18, 20, 26, 27, 28] x2) fun u21 =>
    Option.bind (cd_Seats_bench x2 Gz) fun v28 =>
    Option.bind (cGetI Gz [17] v28 3) fun v33 =>
    Option.bind (cd_Seats_bench x2 Gz) fun v40 =>
    Option.bind (cPutI Gz [17] v40 3 0) fun G46 =>
    Option.bind (cGetI G46 [9] x0 8) fun v51 =>
    Option.bind (cPutI G46 [9] x0 8 (v51 + v33)) fun G57 =>
    if v33 ≤ 0 then
      (cm_X1_unloads_J73 x0 x1 x3 G57)
    else
      Option.bind (cCast G57 [9] x0) fun u70 =>
      Option.bind (cm_X1_tell x0 5 x1 v33 G57) fun G70 =>
      cm_X1_unloads_J73 x0 x1 x3 G70
def cm_X31_holds (x0 : Nat) (x1 : Nat) (x2 : Nat) (Gz : GH) : Option Int32 :=
  Option.bind (cGetR Gz [9] x1 11) fun v1 =>
  Option.bind (cGetI Gz [36] x0 0) fun v5 =>
  Option.bind (cAldB Gz v1 v5) fun v8 =>
  Option.bind (cGetI Gz [36] x0 1) fun v10 =>
  if v8 = v10 then
    (mZr 0 0)
  else
    mZr 1 1
def cm_X32_holds_J159 (x0 : Nat) (s0 : Int32) (G : GH) : Option (Int32 × GH) :=
  Option.bind (cGetI G [37] x0 3) fun v164 =>
  if s0 = v164 then
    (mZr 0 (0, G))
  else
    mZr 1 (1, G)
def cm_X32_holds (x0 : Nat) (x1 : Nat) (x2 : Nat) (Gz : GH) : Option (Int32 × GH) :=
  Option.bind (cGetR Gz [37] x0 1) fun v1 =>
  Option.bind (cd_Expr_of (cm_S60 60) v1 x1 x2 Gz) fun qx6 =>
  Option.bind (cGetI qx6.2 [9] x1 7) fun v11 =>
  if v11 = 0 then
    (Option.bind (cGetR qx6.2 [37] x0 2) fun v20 =>
    Option.bind (cd_Expr_of (cm_S60 60) v20 x1 x2 qx6.2) fun qx25 =>
    Option.bind (cGetI qx25.2 [37] x0 0) fun v31 =>
    if v31 = 60 then
      (if qx25.1 ≤ qx6.1 then
        (cm_X32_holds_J159 x0 0 qx25.2)
      else
        cm_X32_holds_J159 x0 1 qx25.2)
    else
      Option.bind (cGetI qx25.2 [37] x0 0) fun v54 =>
      if v54 = 62 then
        (if qx6.1 ≤ qx25.1 then
          (cm_X32_holds_J159 x0 0 qx25.2)
        else
          cm_X32_holds_J159 x0 1 qx25.2)
      else
        Option.bind (cGetI qx25.2 [37] x0 0) fun v77 =>
        if v77 = 256 then
          (if qx25.1 < qx6.1 then
            (cm_X32_holds_J159 x0 0 qx25.2)
          else
            cm_X32_holds_J159 x0 1 qx25.2)
        else
          Option.bind (cGetI qx25.2 [37] x0 0) fun v101 =>
          if v101 = 257 then
            (if qx6.1 < qx25.1 then
              (cm_X32_holds_J159 x0 0 qx25.2)
            else
              cm_X32_holds_J159 x0 1 qx25.2)
          else
            Option.bind (cGetI qx25.2 [37] x0 0) fun v125 =>
            if v125 = 258 then
              (if qx6.1 = qx25.1 then
                (cm_X32_holds_J159 x0 1 qx25.2)
              else
                cm_X32_holds_J159 x0 0 qx25.2)
            else
              if qx6.1 = qx25.1 then
                (cm_X32_holds_J159 x0 0 qx25.2)
              else
                cm_X32_holds_J159 x0 1 qx25.2)
  else
    mZr 0 (0, qx6.2)
def cd_Cond_holds (rc : (Nat → Nat → Nat → GH → Option (Int32 × GH))) (a : Nat) (y0 : Nat) (y1 : Nat) (G : GH) : Option (Int32 × GH) :=
  if cT G a = 36 then Option.map (fun r => (r, G)) (cm_X31_holds a y0 y1 G) else
  if cT G a = 37 then cm_X32_holds a y0 y1 G else
  if cT G a = 38 then rc a y0 y1 G else
  none
def cm_X33_holds_B2 (rc : (Nat → Nat → Nat → GH → Option (Int32 × GH))) (k2 : Nat → Nat → Nat → Int32 → GH → Option (Int32 × GH)) (x0 : Nat) (x1 : Nat) (x2 : Nat) (x3 : Int32) (G : GH) : Option (Int32 × GH) :=
  Option.bind (cGetR G [38] x0 1) fun v4 =>
  Option.bind (cCast G [3] v4) fun u7 =>
  Option.bind (cm_J6_size v4 G) fun v7 =>
  if v7 ≤ x3 then
    (Option.bind (cGetI G [38] x0 0) fun v59 =>
    mZr v59 (v59, G))
  else
    Option.bind (cGetR G [38] x0 1) fun v14 =>
    Option.bind (cCast G [3] v14) fun u18 =>
    Option.bind (cm_J6_get v14 x3 G) fun v18 =>
    Option.bind v18 fun b21 =>
    Option.bind (cCast G [36, 37, 38] b21) fun u21 =>
    Option.bind (cd_Cond_holds rc b21 x1 x2 G) fun qx26 =>
    Option.bind (cGetI qx26.2 [9] x1 7) fun v32 =>
    if v32 = 0 then
      (Option.bind (cGetI qx26.2 [38] x0 0) fun v43 =>
      if qx26.1 = v43 then
        (k2 x0 x1 x2 (x3 + 1) qx26.2)
      else
        mZr qx26.1 (qx26.1, qx26.2))
    else
      mZr 0 (0, qx26.2)
def cm_X33_holds_L2 (rc : (Nat → Nat → Nat → GH → Option (Int32 × GH))) : Nat → Nat → Nat → Nat → Int32 → GH → Option (Int32 × GH)
  | 0 => fun _ _ _ _ _ => none
  | n + 1 => cm_X33_holds_B2 rc (cm_X33_holds_L2 rc n)
def cm_X33_holds_B (rc : (Nat → Nat → Nat → GH → Option (Int32 × GH))) (x0 : Nat) (x1 : Nat) (x2 : Nat) (Gz : GH) : Option (Int32 × GH) :=
  cm_X33_holds_L2 rc gF x0 x1 x2 0 Gz
def cm_S80 : Nat → (Nat → Nat → Nat → GH → Option (Int32 × GH))
  | 0 => (fun _ _ _ _ => none)
  | d + 1 => (cm_X33_holds_B (cm_S80 d))
def cm_X33_holds (d : Nat) : Nat → Nat → Nat → GH → Option (Int32 × GH) := (cm_S80 d)
def cm_X8_enter (x0 : Nat) (x1 : Int32) (x2 : Int32) (x3 : Int32) (Gz : GH) : Option GH :=
  Option.bind (cGetR Gz [15] x0 5) fun v1 =>
  Option.bind (cGetI Gz [15] x0 6) fun v5 =>
  Option.bind (cAstB Gz v1 v5 x1) fun G9 =>
  Option.bind (cGetR G9 [15] x0 3) fun v11 =>
  Option.bind (cGetI G9 [15] x0 6) fun v15 =>
  Option.bind (cAstI G9 v11 v15 x2) fun G19 =>
  Option.bind (cGetR G19 [15] x0 4) fun v21 =>
  Option.bind (cGetI G19 [15] x0 6) fun v25 =>
  Option.bind (cAstI G19 v21 v25 x3) fun G29 =>
  Option.bind (cGetI G29 [15] x0 6) fun v32 =>
  Option.bind (cPutI G29 [15] x0 6 (v32 + 1)) fun G37 =>
  some G37
def cm_X1_enter (x0 : Nat) (x1 : Int32) (x2 : Int32) (x3 : Int32) (Gz : GH) : Option GH :=
  Option.bind (cCast Gz [15] x0) fun u4 =>
  Option.bind (cm_X8_enter x0 x1 x2 x3 Gz) fun G4 =>
  Option.bind (cGetI G4 [15] x0 7) fun v9 =>
  Option.bind (cPutI G4 [15] x0 7 (v9 + 1)) fun G14 =>
  some G14
def cm_X8_leave_B0 (k0 : Nat → GH → Option GH) (x0 : Nat) (G : GH) : Option GH :=
  Option.bind (cGetI G [15] x0 6) fun v2 =>
  Option.bind (cPutI G [15] x0 6 (v2 - 1)) fun G7 =>
  Option.bind (cGetR G7 [15] x0 5) fun v11 =>
  Option.bind (cGetI G7 [15] x0 6) fun v15 =>
  Option.bind (cAldB G7 v11 v15) fun v18 =>
  if v18 = 0 then
    (Option.bind (cGetR G7 [15] x0 4) fun v24 =>
    Option.bind (cGetI G7 [15] x0 6) fun v28 =>
    Option.bind (cAldI G7 v24 v28) fun v31 =>
    Option.bind (cPutI G7 [15] x0 7 v31) fun G32 =>
    some G32)
  else
    k0 x0 G7
def cm_X8_leave_L0 : Nat → Nat → GH → Option GH
  | 0 => fun _ _ => none
  | n + 1 => cm_X8_leave_B0 (cm_X8_leave_L0 n)
def cm_X8_leave (x0 : Nat) (Gz : GH) : Option GH :=
  cm_X8_leave_L0 gF x0 Gz
def cm_X8_again_J30 (x0 : Nat) (G : GH) : Option GH :=
  Option.bind (cCast G [15] x0) fun u32 =>
  Option.bind (cm_X8_now x0 G) fun v32 =>
  Option.bind (cGetI G [29] v32 5) fun v35 =>
  Option.bind (cPutI G [15] x0 7 v35) fun G38 =>
  some G38
def cm_X8_again (x0 : Nat) (Gz : GH) : Option GH :=
  Option.bind (cGetR Gz [15] x0 3) fun v1 =>
  Option.bind (cGetI Gz [15] x0 6) fun v5 =>
  Option.bind (cAldI Gz v1 (v5 - 1)) fun v10 =>
  if v10 ≤ 1 then
    (cm_X8_again_J30 x0 Gz)
  else
    Option.bind (cGetR Gz [15] x0 3) fun v16 =>
    Option.bind (cGetI Gz [15] x0 6) fun v20 =>
    Option.bind (cAldI Gz v16 (v20 - 1)) fun v26 =>
    Option.bind (cAstI Gz v16 (v20 - 1) (v26 - 1)) fun G29 =>
    cm_X8_again_J30 x0 G29
def cm_X1_turns_J198 (x0 : Nat) (x1 : Int32) (x3 : Nat) (G : GH) : Option (Int32 × GH) :=
  Option.bind (cCast G [9] x0) fun u201 =>
  Option.bind (cm_X1_settle x0 x1 x3 G) fun G201 =>
  mZr 1 (1, G201)
def cm_X1_turns_J94 (x0 : Nat) (x1 : Int32) (x3 : Nat) (x4 : Nat) (s0 : Nat) (s1 : Int32) (s2 : Int32) (G : GH) : Option (Int32 × GH) :=
  Option.bind (cGetI G [29] x4 5) fun v96 =>
  Option.bind (cm_X1_enter s0 s1 s2 v96 G) fun G99 =>
  cm_X1_turns_J198 x0 x1 x3 G99
def cm_X1_turns_J76 (x0 : Nat) (x1 : Int32) (x3 : Nat) (x4 : Nat) (x5 : Int32) (G : GH) : Option (Int32 × GH) :=
  Option.bind (cGetI G [29] x4 0) fun v80 =>
  if v80 = 14 then
    (cm_X1_turns_J94 x0 x1 x3 x4 x3 0 x5 G)
  else
    cm_X1_turns_J94 x0 x1 x3 x4 x3 0 (-1) G
def cm_X1_turns_J146 (x0 : Nat) (x1 : Int32) (x3 : Nat) (s0 : Nat) (s1 : Int32) (G : GH) : Option (Int32 × GH) :=
  Option.bind (cPutI G [15] s0 7 s1) fun G146 =>
  cm_X1_turns_J198 x0 x1 x3 G146
def cm_X1_turns (x0 : Nat) (x1 : Int32) (x2 : Nat) (x3 : Nat) (x4 : Nat) (x5 : Int32) (Gz : GH) : Option (Int32 × GH) :=
  Option.bind (cGetI Gz [29] x4 0) fun v2 =>
  if v2 = 14 then
    (Option.bind (cGetI Gz [29] x4 0) fun v50 =>
    if v50 = 14 then
      (if 1 ≤ x5 then
        (cm_X1_turns_J76 x0 x1 x3 x4 x5 Gz)
      else
        Option.bind (cGetI Gz [29] x4 5) fun v67 =>
        Option.bind (cPutI Gz [15] x3 7 v67) fun G70 =>
        cm_X1_turns_J198 x0 x1 x3 G70)
    else
      cm_X1_turns_J76 x0 x1 x3 x4 x5 Gz)
  else
  if v2 = 15 then
    (Option.bind (cGetI Gz [29] x4 0) fun v50 =>
    if v50 = 14 then
      (if 1 ≤ x5 then
        (cm_X1_turns_J76 x0 x1 x3 x4 x5 Gz)
      else
        Option.bind (cGetI Gz [29] x4 5) fun v67 =>
        Option.bind (cPutI Gz [15] x3 7 v67) fun G70 =>
        cm_X1_turns_J198 x0 x1 x3 G70)
    else
      cm_X1_turns_J76 x0 x1 x3 x4 x5 Gz)
  else
  if v2 = 16 then
    (Option.bind (cGetQ Gz [29] x4 3) fun v107 =>
    Option.bind v107 fun b112 =>
    Option.bind (cd_Cond_holds (cm_S80 60) b112 x0 x2 Gz) fun qx112 =>
    Option.bind (cGetI qx112.2 [9] x0 7) fun v118 =>
    if v118 = 0 then
      (if qx112.1 = 0 then
        (Option.bind (cGetI qx112.2 [29] x4 5) fun v143 =>
        cm_X1_turns_J146 x0 x1 x3 x3 v143 qx112.2)
      else
        Option.bind (cGetI qx112.2 [15] x3 7) fun v133 =>
        cm_X1_turns_J146 x0 x1 x3 x3 (v133 + 1) qx112.2)
    else
      mZr 1 (1, qx112.2))
  else
  if v2 = 17 then
    (Option.bind (cGetI Gz [29] x4 5) fun v157 =>
    Option.bind (cm_X1_enter x3 1 0 v157 Gz) fun G160 =>
    cm_X1_turns_J198 x0 x1 x3 G160)
  else
  if v2 = 18 then
    (Option.bind (cCast Gz [15] x3) fun u167 =>
    Option.bind (cm_X8_leave x3 Gz) fun G167 =>
    cm_X1_turns_J198 x0 x1 x3 G167)
  else
  if v2 = 19 then
    (Option.bind (cPutI Gz [15] x3 10 1) fun G182 =>
    Option.bind (cGetI G182 [9] x0 5) fun v190 =>
    Option.bind (cCast G182 [9] x0) fun u193 =>
    Option.bind (cm_X1_tell x0 6 x1 v190 G182) fun G193 =>
    mZr 1 (1, G193))
  else
  if v2 = 20 then
    (Option.bind (cCast Gz [15] x3) fun u174 =>
    Option.bind (cm_X8_again x3 Gz) fun G174 =>
    cm_X1_turns_J198 x0 x1 x3 G174)
  else
    Option.bind (cPutI Gz [15] x3 10 1) fun G182 =>
    Option.bind (cGetI G182 [9] x0 5) fun v190 =>
    Option.bind (cCast G182 [9] x0) fun u193 =>
    Option.bind (cm_X1_tell x0 6 x1 v190 G182) fun G193 =>
    mZr 1 (1, G193)
def cm_X1_does_J133 (x5 : Int32) (s0 : Nat) (s1 : Int32) (s2 : Nat) (s3 : Nat) (s4 : Int32) (G : GH) : Option (Int32 × GH) :=
  Option.bind (cCast G [9] s0) fun u135 =>
  Option.bind (cm_X1_aims s0 s1 s2 s3 s4 x5 G) fun qx135 =>
  mZr qx135.1 (qx135.1, qx135.2)
def cm_X1_does_J157 (x5 : Int32) (s0 : Nat) (s1 : Int32) (s2 : Nat) (s3 : Nat) (s4 : Int32) (G : GH) : Option (Int32 × GH) :=
  Option.bind (cCast G [9] s0) fun u159 =>
  Option.bind (cm_X1_shines s0 s1 s2 s3 s4 x5 G) fun qx159 =>
  mZr qx159.1 (qx159.1, qx159.2)
def cm_X1_does_J251 (x0 : Nat) (x1 : Int32) (x3 : Nat) (x4 : Nat) (G : GH) : Option (Int32 × GH) :=
  Option.bind (cGetI G [9] x0 7) fun v252 =>
  if v252 = 0 then
    (Option.bind (cGetR G [15] x3 2) fun v261 =>
    Option.bind (cGetI G [29] x4 4) fun v266 =>
    Option.bind (cAldI G v261 v266) fun v270 =>
    Option.bind (cAstI G v261 v266 (v270 - 1)) fun G273 =>
    Option.bind (cGetR G273 [9] x0 10) fun v275 =>
    Option.bind (cGetI G273 [29] x4 4) fun v280 =>
    Option.bind (cAldI G273 v275 v280) fun v284 =>
    Option.bind (cAstI G273 v275 v280 (v284 + 1)) fun G287 =>
    Option.bind (cCast G287 [9] x0) fun u291 =>
    Option.bind (cm_X1_done x0 x1 x3 G287) fun qx291 =>
    mZr qx291.1 (qx291.1, qx291.2))
  else
    mZr 1 (1, G)
def cm_X1_does_J319 (x0 : Nat) (x1 : Int32) (x3 : Nat) (s0 : Nat) (s1 : Int32) (s2 : Int32) (G : GH) : Option (Int32 × GH) :=
  Option.bind (cAstB G s0 s1 s2) fun G319 =>
  Option.bind (cCast G319 [9] x0) fun u323 =>
  Option.bind (cm_X1_done x0 x1 x3 G319) fun qx323 =>
  mZr qx323.1 (qx323.1, qx323.2)
def cm_X1_does_J29 (x0 : Nat) (x1 : Int32) (x2 : Nat) (x3 : Nat) (x4 : Nat) (s0 : Int32) (G : GH) : Option (Int32 × GH) :=
  Option.bind (cGetI G [9] x0 7) fun v32 =>
  if v32 = 0 then
    (Option.bind (cGetI G [29] x4 0) fun v42 =>
    if v42 = 0 then
      (Option.bind (cGetI G [29] x4 0) fun v122 =>
      if v122 = 0 then
        (cm_X1_does_J133 s0 x0 x1 x2 x3 1 G)
      else
        cm_X1_does_J133 s0 x0 x1 x2 x3 0 G)
    else
    if v42 = 1 then
      (Option.bind (cGetI G [29] x4 0) fun v122 =>
      if v122 = 0 then
        (cm_X1_does_J133 s0 x0 x1 x2 x3 1 G)
      else
        cm_X1_does_J133 s0 x0 x1 x2 x3 0 G)
    else
    if v42 = 2 then
      (Option.bind (cGetI G [29] x4 0) fun v145 =>
      if v145 = 2 then
        (cm_X1_does_J157 s0 x0 x1 x2 x3 1 G)
      else
        cm_X1_does_J157 s0 x0 x1 x2 x3 0 G)
    else
    if v42 = 3 then
      (Option.bind (cGetI G [29] x4 0) fun v145 =>
      if v145 = 2 then
        (cm_X1_does_J157 s0 x0 x1 x2 x3 1 G)
      else
        cm_X1_does_J157 s0 x0 x1 x2 x3 0 G)
    else
    if v42 = 4 then
      (Option.bind (cGetI G [29] x4 0) fun v169 =>
      Option.bind (cCast G [9] x0) fun u174 =>
      Option.bind (cm_X1_lasts x0 x1 x2 x3 v169 s0 G) fun qx174 =>
      mZr qx174.1 (qx174.1, qx174.2))
    else
    if v42 = 5 then
      (Option.bind (cCast G [9] x0) fun u182 =>
      Option.bind (cm_X1_unloads x0 x1 x2 x3 G) fun qx182 =>
      mZr qx182.1 (qx182.1, qx182.2))
    else
    if v42 = 6 then
      (Option.bind (cGetI G [29] x4 0) fun v169 =>
      Option.bind (cCast G [9] x0) fun u174 =>
      Option.bind (cm_X1_lasts x0 x1 x2 x3 v169 s0 G) fun qx174 =>
      mZr qx174.1 (qx174.1, qx174.2))
    else
    if v42 = 7 then
      (Option.bind (cGetI G [29] x4 0) fun v169 =>
      Option.bind (cCast G [9] x0) fun u174 =>
      Option.bind (cm_X1_lasts x0 x1 x2 x3 v169 s0 G) fun qx174 =>
      mZr qx174.1 (qx174.1, qx174.2))
    else
    if v42 = 8 then
      (Option.bind (cGetQ G [29] x4 3) fun v188 =>
      Option.bind v188 fun b193 =>
      Option.bind (cd_Cond_holds (cm_S80 60) b193 x0 x2 G) fun qx193 =>
      if qx193.1 = 0 then
        (mZr 0 (0, qx193.2))
      else
        Option.bind (cGetI qx193.2 [9] x0 7) fun v200 =>
        if v200 = 0 then
          (Option.bind (cCast qx193.2 [9] x0) fun u209 =>
          Option.bind (cm_X1_done x0 x1 x3 qx193.2) fun qx209 =>
          if qx209.1 = 0 then
            (mZr 0 (0, qx209.2))
          else
            mZr 1 (1, qx209.2))
        else
          mZr 0 (0, qx193.2))
    else
    if v42 = 9 then
      (Option.bind (cGetI G [29] x4 4) fun v226 =>
      Option.bind (cCast G [9] x0) fun u229 =>
      Option.bind (cm_X1_claims x0 x1 x3 v226 G) fun qx229 =>
      mZr qx229.1 (qx229.1, qx229.2))
    else
    if v42 = 10 then
      (Option.bind (cGetR G [15] x3 2) fun v234 =>
      Option.bind (cGetI G [29] x4 4) fun v239 =>
      Option.bind (cAldI G v234 v239) fun v242 =>
      if v242 = 0 then
        (Option.bind (cPutI G [9] x0 7 3) fun G248 =>
        cm_X1_does_J251 x0 x1 x3 x4 G248)
      else
        cm_X1_does_J251 x0 x1 x3 x4 G)
    else
    if v42 = 11 then
      (Option.bind (cGetR G [9] x0 11) fun v296 =>
      Option.bind (cGetI G [29] x4 4) fun v301 =>
      Option.bind (cGetI G [29] x4 0) fun v306 =>
      if v306 = 11 then
        (cm_X1_does_J319 x0 x1 x3 v296 v301 1 G)
      else
        cm_X1_does_J319 x0 x1 x3 v296 v301 0 G)
    else
    if v42 = 12 then
      (Option.bind (cGetR G [9] x0 11) fun v296 =>
      Option.bind (cGetI G [29] x4 4) fun v301 =>
      Option.bind (cGetI G [29] x4 0) fun v306 =>
      if v306 = 11 then
        (cm_X1_does_J319 x0 x1 x3 v296 v301 1 G)
      else
        cm_X1_does_J319 x0 x1 x3 v296 v301 0 G)
    else
    if v42 = 13 then
      (Option.bind (cGetR G [15] x3 1) fun v328 =>
      Option.bind (cGetI G [29] x4 4) fun v333 =>
      Option.bind (cAstI G v328 v333 s0) fun G338 =>
      Option.bind (cCast G338 [9] x0) fun u342 =>
      Option.bind (cm_X1_done x0 x1 x3 G338) fun qx342 =>
      mZr qx342.1 (qx342.1, qx342.2))
    else
      Option.bind (cCast G [9] x0) fun u354 =>
      Option.bind (cm_X1_turns x0 x1 x2 x3 x4 s0 G) fun qx354 =>
      mZr qx354.1 (qx354.1, qx354.2))
  else
    mZr 1 (1, G)
def cm_X1_does_J15 (x0 : Nat) (x1 : Int32) (x2 : Nat) (x3 : Nat) (x4 : Nat) (G : GH) : Option (Int32 × GH) :=
  cm_X1_does_J29 x0 x1 x2 x3 x4 0 G
def cm_X1_does (x0 : Nat) (x1 : Int32) (x2 : Nat) (x3 : Nat) (x4 : Nat) (Gz : GH) : Option (Int32 × GH) :=
  Option.bind (cGetQ Gz [29] x4 2) fun v2 =>
  if v2 = none then
    (cm_X1_does_J15 x0 x1 x2 x3 x4 Gz)
  else
    Option.bind (cGetI Gz [15] x3 12) fun v9 =>
    if v9 = 0 then
      (Option.bind (cGetQ Gz [29] x4 2) fun v21 =>
      Option.bind v21 fun b26 =>
      Option.bind (cd_Expr_of (cm_S60 60) b26 x0 x2 Gz) fun qx26 =>
      cm_X1_does_J29 x0 x1 x2 x3 x4 qx26.1 qx26.2)
    else
      cm_X1_does_J15 x0 x1 x2 x3 x4 Gz
def cm_X1_fault_J14 (x0 : Nat) (x1 : Int32) (s0 : Int32) (G : GH) : Option (GX Int32) :=
  gXb (cm_X1_there s0 G) fun qx14 =>
  if x1 = 0 then
    (Option.bind (cGetI qx14.2 [9] x0 2) fun v22 =>
    some (.inl (v22, qx14.2)))
  else
    Option.bind (cGetI qx14.2 [9] x0 3) fun v29 =>
    some (.inl (v29, qx14.2))
def cm_X1_fault_J9 (x0 : Nat) (x1 : Int32) (G : GH) : Option (GX Int32) :=
  cm_X1_fault_J14 x0 x1 1 G
def cm_X1_fault (x0 : Nat) (x1 : Int32) (Gz : GH) : Option (GX Int32) :=
  if x1 = 0 then
    (cm_X1_fault_J9 x0 x1 Gz)
  else
    if x1 = 1 then
      (cm_X1_fault_J9 x0 x1 Gz)
    else
      cm_X1_fault_J14 x0 x1 0 Gz
def cm_X1_put_B3 (k3 : Nat → Int32 → Int32 → GH → Option GH) (x0 : Nat) (x1 : Int32) (x2 : Int32) (G : GH) : Option GH :=
  if x2 < 0 then
    (some G)
  else
    Option.bind (cGetR G [9] x0 0) fun v8 =>
    Option.bind (cGetI G [9] x0 1) fun v12 =>
    Option.bind (cAstB G v8 v12 ((x1 >>> (x2 &&& 31)).toInt8.toInt32)) fun G19 =>
    Option.bind (cGetI G19 [9] x0 1) fun v22 =>
    Option.bind (cPutI G19 [9] x0 1 (v22 + 1)) fun G27 =>
    k3 x0 x1 (x2 + (-8)) G27
def cm_X1_put_L3 : Nat → Nat → Int32 → Int32 → GH → Option GH
  | 0 => fun _ _ _ _ => none
  | n + 1 => cm_X1_put_B3 (cm_X1_put_L3 n)
def cm_X1_put (x0 : Nat) (x1 : Int32) (Gz : GH) : Option GH :=
  cm_X1_put_L3 gF x0 x1 24 Gz
def cm_X1_feed (x0 : Nat) (x1 : Int32) (x2 : Int32) (x3 : Int32) (x4 : Int32) (x5 : Int32) (Gz : GH) : Option (Int32 × GH) :=
  Option.bind (cGetI Gz [9] x0 1) fun v1 =>
  if (v1 + 20) ≤ 4000 then
    (Option.bind (cCast Gz [9] x0) fun u17 =>
    Option.bind (cm_X1_put x0 x1 Gz) fun G17 =>
    Option.bind (cCast G17 [9] x0) fun u22 =>
    Option.bind (cm_X1_put x0 x2 G17) fun G22 =>
    Option.bind (cCast G22 [9] x0) fun u27 =>
    Option.bind (cm_X1_put x0 x3 G22) fun G27 =>
    Option.bind (cCast G27 [9] x0) fun u33 =>
    Option.bind (cm_X1_put x0 x4 G27) fun G33 =>
    Option.bind (cCast G33 [9] x0) fun u39 =>
    Option.bind (cm_X1_put x0 x5 G33) fun G39 =>
    Option.bind (cGetI G39 [9] x0 1) fun v43 =>
    some (v43, G39))
  else
    some ((-1), Gz)
def cm_X1_free_J24 (x0 : Nat) (x1 : Int32) (s0 : Int32) (G : GH) : Option (GX Int32) :=
  gXb (cm_X1_there s0 G) fun qx24 =>
  Option.bind (cGetR qx24.2 [9] x0 10) fun v28 =>
  Option.bind (cAldI qx24.2 v28 x1) fun v32 =>
  some (.inl (v32, qx24.2))
def cm_X1_free_J23 (x0 : Nat) (x1 : Int32) (G : GH) : Option (GX Int32) :=
  cm_X1_free_J24 x0 x1 0 G
def cm_X1_free (x0 : Nat) (x1 : Int32) (Gz : GH) : Option (GX Int32) :=
  Option.bind (cCast Gz [9] x0) fun u1 =>
  gXb (cm_X1_isFair x0 Gz) fun qx1 =>
  if x1 < 0 then
    (cm_X1_free_J23 x0 x1 qx1.2)
  else
    Option.bind (cGetQ qx1.2 [9] x0 4) fun v10 =>
    Option.bind v10 fun b13 =>
    Option.bind (cGetI qx1.2 [11] b13 12) fun v13 =>
    if v13 ≤ x1 then
      (cm_X1_free_J23 x0 x1 qx1.2)
    else
      cm_X1_free_J24 x0 x1 1 qx1.2
def cm_X8_falls_B0 (k0 : Nat → GH → Option (Int32 × GH)) (x0 : Nat) (G : GH) : Option (Int32 × GH) :=
  Option.bind (cGetI G [15] x0 6) fun v1 =>
  if v1 ≤ 0 then
    (mZr 0 (0, G))
  else
    Option.bind (cGetI G [15] x0 6) fun v9 =>
    Option.bind (cPutI G [15] x0 6 (v9 - 1)) fun G14 =>
    Option.bind (cGetR G14 [15] x0 5) fun v18 =>
    Option.bind (cGetI G14 [15] x0 6) fun v22 =>
    Option.bind (cAldB G14 v18 v22) fun v25 =>
    if v25 = 0 then
      (k0 x0 G14)
    else
      Option.bind (cGetR G14 [15] x0 4) fun v34 =>
      Option.bind (cGetI G14 [15] x0 6) fun v38 =>
      Option.bind (cAldI G14 v34 v38) fun v41 =>
      Option.bind (cPutI G14 [15] x0 7 v41) fun G42 =>
      Option.bind (cPutZ G42 [15] x0 12 0) fun G47 =>
      mZr 1 (1, G47)
def cm_X8_falls_L0 : Nat → Nat → GH → Option (Int32 × GH)
  | 0 => fun _ _ => none
  | n + 1 => cm_X8_falls_B0 (cm_X8_falls_L0 n)
def cm_X8_falls (x0 : Nat) (Gz : GH) : Option (Int32 × GH) :=
  cm_X8_falls_L0 gF x0 Gz
def cm_X1_stalls_B33 (k33 : Nat → Int32 → Int32 → Nat → Int32 → GH → Option GH) (x0 : Nat) (x1 : Int32) (x3 : Int32) (x4 : Nat) (x5 : Int32) (G : GH) : Option GH :=
  if 6 ≤ x5 then
    (Option.bind (cCast G [9] x0) fun u77 =>
    Option.bind (cm_X1_tell x0 2 x1 x3 G) fun G77 =>
    some G77)
  else
    Option.bind (cGetR G [9] x0 10) fun v41 =>
    Option.bind (cAldI G v41 x5) fun v47 =>
    Option.bind (cGetR G [15] x4 2) fun v50 =>
    Option.bind (cAldI G v50 x5) fun v55 =>
    Option.bind (cAstI G v41 x5 (v47 + v55)) fun G57 =>
    Option.bind (cGetR G57 [15] x4 2) fun v60 =>
    Option.bind (cAstI G57 v60 x5 0) fun G66 =>
    k33 x0 x1 x3 x4 (x5 + 1) G66
def cm_X1_stalls_L33 : Nat → Nat → Int32 → Int32 → Nat → Int32 → GH → Option GH
  | 0 => fun _ _ _ _ _ _ => none
  | n + 1 => cm_X1_stalls_B33 (cm_X1_stalls_L33 n)
def cm_X1_stalls (x0 : Nat) (x1 : Int32) (x2 : Nat) (x3 : Int32) (Gz : GH) : Option GH :=
  Option.bind (cm_X1_goals x2 Gz) fun G1 =>
  Option.bind (cGetR G1 [14, 18, 20, 21, 23, 25, 26, 27, 28] x2 1) fun v5 =>
  Option.bind (cPutZ G1 [15] v5 12 0) fun G13 =>
  Option.bind (cCast G13 [15] v5) fun u18 =>
  Option.bind (cm_X8_falls v5 G13) fun qx18 =>
  if qx18.1 = 0 then
    (Option.bind (cPutI qx18.2 [15] v5 10 2) fun G27 =>
    cm_X1_stalls_L33 gF x0 x1 x3 v5 0 G27)
  else
    Option.bind (cPutI qx18.2 [15] v5 9 x3) fun G84 =>
    Option.bind (cCast G84 [9] x0) fun u91 =>
    Option.bind (cm_X1_tell x0 1 x1 x3 G84) fun G91 =>
    Option.bind (cCast G91 [9] x0) fun u98 =>
    Option.bind (cm_X1_settle x0 x1 v5 G91) fun G98 =>
    some G98
def cm_X1_goesOn_J107 (k36 : Nat → Int32 → Nat → Nat → Int32 → Int32 → GH → Option GH) (x0 : Nat) (x1 : Int32) (x2 : Nat) (x3 : Nat) (x4 : Int32) (x5 : Int32) (G : GH) : Option GH :=
  k36 x0 x1 x2 x3 x4 (x5 + 1) G
def cm_X1_goesOn_B36 (k36 : Nat → Int32 → Nat → Nat → Int32 → Int32 → GH → Option GH) (x0 : Nat) (x1 : Int32) (x2 : Nat) (x3 : Nat) (x4 : Int32) (x5 : Int32) (G : GH) : Option GH :=
  if x4 = 0 then
    (some G)
  else
    Option.bind (cGetI G [15] x3 10) fun v42 =>
    if v42 = 0 then
      (if 40 ≤ x5 then
        (some G)
      else
        Option.bind (cGetI G [15] x3 11) fun v57 =>
        Option.bind (cPutI G [15] x3 11 (v57 + 1)) fun G62 =>
        Option.bind (cPutI G62 [9] x0 7 0) fun G67 =>
        Option.bind (cCast G67 [15] x3) fun u75 =>
        Option.bind (cm_X8_now x3 G67) fun v75 =>
        Option.bind (cCast G67 [9] x0) fun u78 =>
        Option.bind (cm_X1_does x0 x1 x2 x3 v75 G67) fun qx78 =>
        Option.bind (cGetI qx78.2 [9] x0 7) fun v84 =>
        if v84 = 0 then
          (cm_X1_goesOn_J107 k36 x0 x1 x2 x3 qx78.1 x5 qx78.2)
        else
          Option.bind (cGetI qx78.2 [9] x0 7) fun v91 =>
          Option.bind (cCast qx78.2 [9] x0) fun u101 =>
          Option.bind (cm_X1_stalls x0 x1 x2 v91 qx78.2) fun G101 =>
          cm_X1_goesOn_J107 k36 x0 x1 x2 x3 1 x5 G101)
    else
      some G
def cm_X1_goesOn_L36 : Nat → Nat → Int32 → Nat → Nat → Int32 → Int32 → GH → Option GH
  | 0 => fun _ _ _ _ _ _ _ => none
  | n + 1 => cm_X1_goesOn_B36 (cm_X1_goesOn_L36 n)
def cm_X1_goesOn_J30 (x0 : Nat) (x1 : Int32) (x2 : Nat) (x3 : Nat) (G : GH) : Option GH :=
  cm_X1_goesOn_L36 gF x0 x1 x2 x3 1 0 G
def cm_X1_goesOn (x0 : Nat) (x1 : Int32) (x2 : Nat) (Gz : GH) : Option GH :=
  Option.bind (cGetR Gz [14, 18, 20, 21, 23, 25, 26, 27, 28] x2 1) fun v1 =>
  Option.bind (cGetI Gz [15] v1 10) fun v6 =>
  if v6 = 0 then
    (Option.bind (cCast Gz [15] v1) fun u13 =>
    Option.bind (cm_X8_now v1 Gz) fun v13 =>
    Option.bind (cGetI Gz [29] v13 0) fun v16 =>
    if v16 = 23 then
      (Option.bind (cCast Gz [9] x0) fun u27 =>
      Option.bind (cm_X1_settle x0 x1 v1 Gz) fun G27 =>
      cm_X1_goesOn_J30 x0 x1 x2 v1 G27)
    else
      cm_X1_goesOn_J30 x0 x1 x2 v1 Gz)
  else
    cm_X1_goesOn_J30 x0 x1 x2 v1 Gz
def cm_X1_hasGoal_J48 (Gz : GH) : Option Int32 :=
  mZr 1 1
def cm_X1_hasGoal_J24 (x0 : Nat) (Gz : GH) : Option Int32 :=
  Option.bind (cInst Gz [18, 20, 25, 27] [14, 21, 23, 26, 28] x0) fun v25 =>
  if v25 = 0 then
    (mZr 0 0)
  else
    Option.bind (cCast Gz [18, 20, 25, 27] x0) fun u32 =>
    Option.bind (cd_Lifts_hoist x0 Gz) fun v37 =>
    Option.bind (cGetI Gz [19] v37 3) fun v42 =>
    if v42 = 0 then
      (mZr 0 0)
    else
      cm_X1_hasGoal_J48 Gz
def cm_X1_hasGoal (x0 : Nat) (Gz : GH) : Option Int32 :=
  Option.bind (cInst Gz [14, 20, 21, 27, 28] [18, 23, 25, 26] x0) fun v1 =>
  if v1 = 0 then
    (cm_X1_hasGoal_J24 x0 Gz)
  else
    Option.bind (cCast Gz [14, 20, 21, 27, 28] x0) fun u8 =>
    Option.bind (cd_Turns_spin x0 Gz) fun v13 =>
    Option.bind (cGetI Gz [16] v13 3) fun v18 =>
    if v18 = 0 then
      (cm_X1_hasGoal_J24 x0 Gz)
    else
      cm_X1_hasGoal_J48 Gz
def cm_X1_isBright_J48 (Gz : GH) : Option Int32 :=
  mZr 1 1
def cm_X1_isBright_J24 (x0 : Nat) (Gz : GH) : Option Int32 :=
  Option.bind (cInst Gz [21, 25, 26, 27] [14, 18, 20, 23, 28] x0) fun v25 =>
  if v25 = 0 then
    (mZr 0 0)
  else
    Option.bind (cCast Gz [21, 25, 26, 27] x0) fun u32 =>
    Option.bind (cd_Sounds_voice x0 Gz) fun v37 =>
    Option.bind (cGetI Gz [22] v37 0) fun v42 =>
    if v42 = 0 then
      (mZr 0 0)
    else
      cm_X1_isBright_J48 Gz
def cm_X1_isBright (x0 : Nat) (Gz : GH) : Option Int32 :=
  Option.bind (cInst Gz [23, 25, 26, 27] [14, 18, 20, 21, 28] x0) fun v1 =>
  if v1 = 0 then
    (cm_X1_isBright_J24 x0 Gz)
  else
    Option.bind (cCast Gz [23, 25, 26, 27] x0) fun u8 =>
    Option.bind (cd_Lamps_light x0 Gz) fun v13 =>
    Option.bind (cGetI Gz [24] v13 1) fun v18 =>
    if v18 = 0 then
      (cm_X1_isBright_J24 x0 Gz)
    else
      cm_X1_isBright_J48 Gz
def cm_X1_word_B4 (k4 : Nat → Int64 → Int32 → GH → Option (Int64 × GH)) (x0 : Nat) (x1 : Int64) (x3 : Int32) (G : GH) : Option (Int64 × GH) :=
  Option.bind (cCast G [5] x0) fun u6 =>
  Option.bind (cm_J9_length x0 G) fun v6 =>
  if v6 ≤ x3 then
    (some (x1, G))
  else
    Option.bind (cCast G [5] x0) fun u18 =>
    Option.bind (cm_J9_charAt x0 x3 G) fun qx18 =>
    k4 x0 ((x1 <<< ((8 : Int32).toInt64 &&& 63)) ||| qx18.1.toInt64) (x3 + 1) qx18.2
def cm_X1_word_L4 : Nat → Nat → Int64 → Int32 → GH → Option (Int64 × GH)
  | 0 => fun _ _ _ _ => none
  | n + 1 => cm_X1_word_B4 (cm_X1_word_L4 n)
def cm_X1_word (x0 : Nat) (Gz : GH) : Option (Int64 × GH) :=
  cm_X1_word_L4 gF x0 0 0 Gz
def cm_X1_isReserved_J50 (G : GH) : Option (Int32 × GH) :=
  mZr 1 (1, G)
def cm_X1_isReserved_J20 (x0 : Int64) (G : GH) : Option (Int32 × GH) :=
  Option.bind (cm_X1_among (cK G (100 + 55)) x0 G) fun qx23 =>
  if qx23.1 = (-1) then
    (Option.bind (cm_X1_among (cK qx23.2 (100 + 56)) x0 qx23.2) fun qx33 =>
    if qx33.1 = (-1) then
      (Option.bind (cm_X1_among (cK qx33.2 (100 + 57)) x0 qx33.2) fun qx43 =>
      if qx43.1 = (-1) then
        (mZr 0 (0, qx43.2))
      else
        cm_X1_isReserved_J50 qx43.2)
    else
      cm_X1_isReserved_J50 qx33.2)
  else
    cm_X1_isReserved_J50 qx23.2
def cm_X1_isReserved (x0 : Int64) (Gz : GH) : Option (Int32 × GH) :=
  Option.bind (cm_X1_among (cK Gz (100 + 53)) x0 Gz) fun qx3 =>
  if qx3.1 = (-1) then
    (cm_X1_isReserved_J20 x0 qx3.2)
  else
    Option.bind (cm_X1_word (cK qx3.2 (100 + 54)) qx3.2) fun qx13 =>
    if (lg_cmp x0 qx13.1) = 0 then
      (cm_X1_isReserved_J20 x0 qx13.2)
    else
      cm_X1_isReserved_J50 qx13.2
def cm_X1_isUp_J24 (x0 : Nat) (x1 : Int32) (s0 : Int32) (G : GH) : Option (GX Int32) :=
  gXb (cm_X1_there s0 G) fun qx24 =>
  Option.bind (cGetR qx24.2 [9] x0 11) fun v28 =>
  Option.bind (cAldB qx24.2 v28 x1) fun v32 =>
  mZr v32 (.inl (v32, qx24.2))
def cm_X1_isUp_J23 (x0 : Nat) (x1 : Int32) (G : GH) : Option (GX Int32) :=
  cm_X1_isUp_J24 x0 x1 0 G
def cm_X1_isUp (x0 : Nat) (x1 : Int32) (Gz : GH) : Option (GX Int32) :=
  Option.bind (cCast Gz [9] x0) fun u1 =>
  gXb (cm_X1_isFair x0 Gz) fun qx1 =>
  if x1 < 0 then
    (cm_X1_isUp_J23 x0 x1 qx1.2)
  else
    Option.bind (cGetQ qx1.2 [9] x0 4) fun v10 =>
    Option.bind v10 fun b13 =>
    Option.bind (cGetI qx1.2 [11] b13 13) fun v13 =>
    if v13 ≤ x1 then
      (cm_X1_isUp_J23 x0 x1 qx1.2)
    else
      cm_X1_isUp_J24 x0 x1 1 qx1.2
def cm_X1_log_J37 (x0 : Nat) (x1 : Int32) (x2 : Int32) (s0 : Int32) (G : GH) : Option (GX Int32) :=
  gXb (cm_X1_there s0 G) fun qx37 =>
  if x2 = 0 then
    (Option.bind (cGetR qx37.2 [9] x0 12) fun v45 =>
    Option.bind (cAldI qx37.2 v45 x1) fun v49 =>
    some (.inl (v49, qx37.2)))
  else
    if x2 = 1 then
      (Option.bind (cGetR qx37.2 [9] x0 13) fun v59 =>
      Option.bind (cAldI qx37.2 v59 x1) fun v63 =>
      some (.inl (v63, qx37.2)))
    else
      if x2 = 2 then
        (Option.bind (cGetR qx37.2 [9] x0 14) fun v73 =>
        Option.bind (cAldI qx37.2 v73 x1) fun v77 =>
        some (.inl (v77, qx37.2)))
      else
        Option.bind (cGetR qx37.2 [9] x0 15) fun v82 =>
        Option.bind (cAldI qx37.2 v82 x1) fun v86 =>
        some (.inl (v86, qx37.2))
def cm_X1_log_J36 (x0 : Nat) (x1 : Int32) (x2 : Int32) (G : GH) : Option (GX Int32) :=
  cm_X1_log_J37 x0 x1 x2 0 G
def cm_X1_log (x0 : Nat) (x1 : Int32) (x2 : Int32) (Gz : GH) : Option (GX Int32) :=
  Option.bind (cCast Gz [9] x0) fun u1 =>
  gXb (cm_X1_isFair x0 Gz) fun qx1 =>
  if x1 < 0 then
    (cm_X1_log_J36 x0 x1 x2 qx1.2)
  else
    Option.bind (cGetI qx1.2 [9] x0 16) fun v10 =>
    if v10 ≤ x1 then
      (cm_X1_log_J36 x0 x1 x2 qx1.2)
    else
      if 400 ≤ x1 then
        (cm_X1_log_J36 x0 x1 x2 qx1.2)
      else
        if x2 < 0 then
          (cm_X1_log_J36 x0 x1 x2 qx1.2)
        else
          if 3 < x2 then
            (cm_X1_log_J36 x0 x1 x2 qx1.2)
          else
            cm_X1_log_J37 x0 x1 x2 1 qx1.2
def cm_X1_measure_J202 (s0 : Nat) (s1 : Int32) (G : GH) : Option (GX Int32) :=
  Option.bind (cm_X1_measured s0 s1 G) fun v202 =>
  some (.inl (v202, G))
def cm_X1_measure_J25 (x2 : Int32) (x3 : Nat) (s0 : Int32) (G : GH) : Option (GX Int32) :=
  gXb (cm_X1_there s0 G) fun qx25 =>
  if x2 = 0 then
    (Option.bind (cGetI qx25.2 [14, 18, 20, 21, 23, 25, 26, 27, 28] x3 0) fun v89 =>
    some (.inl (v89, qx25.2)))
  else
  if x2 = 1 then
    (Option.bind (cm_X1_measured x3 0 qx25.2) fun v95 =>
    some (.inl (v95, qx25.2)))
  else
  if x2 = 2 then
    (Option.bind (cInst qx25.2 [14, 20, 21, 27, 28] [18, 23, 25, 26] x3) fun v100 =>
    if v100 = 0 then
      (some (.inl (0, qx25.2)))
    else
      Option.bind (cCast qx25.2 [14, 20, 21, 27, 28] x3) fun u107 =>
      Option.bind (cd_Turns_spin x3 qx25.2) fun v114 =>
      Option.bind (cGetI qx25.2 [16] v114 3) fun v119 =>
      some (.inl (v119, qx25.2)))
  else
  if x2 = 3 then
    (Option.bind (cm_X1_measured x3 1 qx25.2) fun v129 =>
    some (.inl (v129, qx25.2)))
  else
  if x2 = 4 then
    (Option.bind (cInst qx25.2 [18, 20, 25, 27] [14, 21, 23, 26, 28] x3) fun v134 =>
    if v134 = 0 then
      (some (.inl (0, qx25.2)))
    else
      Option.bind (cCast qx25.2 [18, 20, 25, 27] x3) fun u141 =>
      Option.bind (cd_Lifts_hoist x3 qx25.2) fun v148 =>
      Option.bind (cGetI qx25.2 [19] v148 3) fun v153 =>
      some (.inl (v153, qx25.2)))
  else
  if x2 = 5 then
    (if x2 = 5 then
      (cm_X1_measure_J202 x3 2 qx25.2)
    else
      cm_X1_measure_J202 x3 (x2 - 3) qx25.2)
  else
  if x2 = 6 then
    (if x2 = 5 then
      (cm_X1_measure_J202 x3 2 qx25.2)
    else
      cm_X1_measure_J202 x3 (x2 - 3) qx25.2)
  else
  if x2 = 7 then
    (if x2 = 5 then
      (cm_X1_measure_J202 x3 2 qx25.2)
    else
      cm_X1_measure_J202 x3 (x2 - 3) qx25.2)
  else
  if x2 = 8 then
    (if x2 = 5 then
      (cm_X1_measure_J202 x3 2 qx25.2)
    else
      cm_X1_measure_J202 x3 (x2 - 3) qx25.2)
  else
  if x2 = 9 then
    (if x2 = 5 then
      (cm_X1_measure_J202 x3 2 qx25.2)
    else
      cm_X1_measure_J202 x3 (x2 - 3) qx25.2)
  else
  if x2 = 10 then
    (Option.bind (cInst qx25.2 [14, 18, 20, 26, 27, 28] [21, 23, 25] x3) fun v162 =>
    if v162 = 0 then
      (some (.inl (0, qx25.2)))
    else
      Option.bind (cCast qx25.2 [14, 18, 20, 26, 27, 28] x3) fun u169 =>
      Option.bind (cd_Seats_bench x3 qx25.2) fun v176 =>
      Option.bind (cGetI qx25.2 [17] v176 0) fun v181 =>
      some (.inl (v181, qx25.2)))
  else
    if x2 = 5 then
      (cm_X1_measure_J202 x3 2 qx25.2)
    else
      cm_X1_measure_J202 x3 (x2 - 3) qx25.2
def cm_X1_measure_J24 (x2 : Int32) (x3 : Nat) (G : GH) : Option (GX Int32) :=
  cm_X1_measure_J25 x2 x3 0 G
def cm_X1_measure (x0 : Nat) (x1 : Int32) (x2 : Int32) (Gz : GH) : Option (GX Int32) :=
  Option.bind (cCast Gz [9] x0) fun u1 =>
  gXb (cm_X1_isFair x0 Gz) fun qx1 =>
  Option.bind (cCast qx1.2 [9] x0) fun u6 =>
  gXb (cm_X1_rideAt x0 x1 qx1.2) fun qx6 =>
  if x2 < 0 then
    (cm_X1_measure_J24 x2 qx6.1 qx6.2)
  else
    if 10 < x2 then
      (cm_X1_measure_J24 x2 qx6.1 qx6.2)
    else
      cm_X1_measure_J25 x2 qx6.1 1 qx6.2
def cm_X10_tire_J44 (x0 : Nat) (x2 : Int32) (G : GH) : Option (Int32 × GH) :=
  Option.bind (cGetI G [17] x0 6) fun v46 =>
  Option.bind (cPutI G [17] x0 6 (v46 - x2)) fun G51 =>
  some (x2, G51)
def cm_X10_tire_B2 (k2 : Nat → Int32 → Int32 → GH → Option (Int32 × GH)) (x0 : Nat) (x1 : Int32) (x2 : Int32) (G : GH) : Option (Int32 × GH) :=
  Option.bind (cGetI G [17] x0 5) fun v3 =>
  if v3 ≤ 0 then
    (cm_X10_tire_J44 x0 x2 G)
  else
    Option.bind (cGetR G [17] x0 1) fun v11 =>
    Option.bind (cGetI G [17] x0 4) fun v15 =>
    Option.bind (cAldI G v11 v15) fun v18 =>
    if (x1 - v18) ≤ 60 then
      (cm_X10_tire_J44 x0 x2 G)
    else
      Option.bind (cGetR G [17] x0 2) fun v27 =>
      Option.bind (cGetI G [17] x0 4) fun v31 =>
      Option.bind (cAldI G v27 v31) fun v34 =>
      Option.bind (cCast G [17] x0) fun u38 =>
      Option.bind (cm_X10_shift x0 G) fun G38 =>
      k2 x0 x1 (x2 + v34) G38
def cm_X10_tire_L2 : Nat → Nat → Int32 → Int32 → GH → Option (Int32 × GH)
  | 0 => fun _ _ _ _ => none
  | n + 1 => cm_X10_tire_B2 (cm_X10_tire_L2 n)
def cm_X10_tire (x0 : Nat) (x1 : Int32) (Gz : GH) : Option (Int32 × GH) :=
  cm_X10_tire_L2 gF x0 x1 0 Gz
def cm_X9_near_J71 (s0 : Nat) (s1 : Int32) (G : GH) : Option GH :=
  Option.bind (cPutI G [16] s0 2 s1) fun G71 =>
  some G71
def cm_X9_near_J38 (s0 : Nat) (s1 : Int32) (G : GH) : Option GH :=
  Option.bind (cPutI G [16] s0 2 s1) fun G38 =>
  some G38
def cm_X9_near (x0 : Nat) (x1 : Int32) (Gz : GH) : Option GH :=
  Option.bind (cGetI Gz [16] x0 2) fun v1 =>
  Option.bind (cGetI Gz [16] x0 3) fun v5 =>
  if v5 ≤ v1 then
    (Option.bind (cGetI Gz [16] x0 2) fun v46 =>
    Option.bind (cGetI Gz [16] x0 3) fun v50 =>
    if x1 ≤ (v46 - v50) then
      (Option.bind (cGetI Gz [16] x0 2) fun v66 =>
      cm_X9_near_J71 x0 (v66 - x1) Gz)
    else
      Option.bind (cGetI Gz [16] x0 3) fun v59 =>
      cm_X9_near_J71 x0 v59 Gz)
  else
    Option.bind (cGetI Gz [16] x0 3) fun v13 =>
    Option.bind (cGetI Gz [16] x0 2) fun v17 =>
    if x1 ≤ (v13 - v17) then
      (Option.bind (cGetI Gz [16] x0 2) fun v33 =>
      cm_X9_near_J38 x0 (v33 + x1) Gz)
    else
      Option.bind (cGetI Gz [16] x0 3) fun v26 =>
      cm_X9_near_J38 x0 v26 Gz
def cm_X34_turn (x0 : Nat) (Gz : GH) : Option GH :=
  Option.bind (cd_Turns_spin x0 Gz) fun v1 =>
  Option.bind (cd_Turns_spin x0 Gz) fun v7 =>
  Option.bind (cGetI Gz [16] v7 1) fun v12 =>
  Option.bind (cCast Gz [16] v1) fun u15 =>
  Option.bind (cm_X9_near v1 v12 Gz) fun G15 =>
  some G15
def cd_Turns_turn (a : Nat) (G : GH) : Option GH :=
  if cT G a = 14 then cm_X34_turn a G else
  if cT G a = 20 then cm_X34_turn a G else
  if cT G a = 21 then cm_X34_turn a G else
  if cT G a = 27 then cm_X34_turn a G else
  if cT G a = 28 then cm_X34_turn a G else
  none
def cm_X34_ease (x0 : Nat) (Gz : GH) : Option GH :=
  Option.bind (cd_Turns_turn x0 Gz) fun G1 =>
  some G1
def cm_X12_near_J79 (x0 : Nat) (x3 : Int32) (G : GH) : Option GH :=
  Option.bind (cGetI G [19] x0 2) fun v81 =>
  Option.bind (cPutI G [19] x0 4 (v81 - x3)) fun G86 =>
  some G86
def cm_X12_near_J76 (x0 : Nat) (x3 : Int32) (s0 : Nat) (s1 : Int32) (G : GH) : Option GH :=
  Option.bind (cPutI G [19] s0 2 s1) fun G76 =>
  cm_X12_near_J79 x0 x3 G76
def cm_X12_near_J43 (x0 : Nat) (x3 : Int32) (s0 : Nat) (s1 : Int32) (G : GH) : Option GH :=
  Option.bind (cPutI G [19] s0 2 s1) fun G43 =>
  cm_X12_near_J79 x0 x3 G43
def cm_X12_near (x0 : Nat) (x1 : Int32) (x2 : Int32) (Gz : GH) : Option GH :=
  Option.bind (cGetI Gz [19] x0 2) fun v1 =>
  Option.bind (cGetI Gz [19] x0 2) fun v6 =>
  Option.bind (cGetI Gz [19] x0 3) fun v10 =>
  if v10 ≤ v6 then
    (Option.bind (cGetI Gz [19] x0 2) fun v51 =>
    Option.bind (cGetI Gz [19] x0 3) fun v55 =>
    if x2 ≤ (v51 - v55) then
      (Option.bind (cGetI Gz [19] x0 2) fun v71 =>
      cm_X12_near_J76 x0 v1 x0 (v71 - x2) Gz)
    else
      Option.bind (cGetI Gz [19] x0 3) fun v64 =>
      cm_X12_near_J76 x0 v1 x0 v64 Gz)
  else
    Option.bind (cGetI Gz [19] x0 3) fun v18 =>
    Option.bind (cGetI Gz [19] x0 2) fun v22 =>
    if x1 ≤ (v18 - v22) then
      (Option.bind (cGetI Gz [19] x0 2) fun v38 =>
      cm_X12_near_J43 x0 v1 x0 (v38 + x1) Gz)
    else
      Option.bind (cGetI Gz [19] x0 3) fun v31 =>
      cm_X12_near_J43 x0 v1 x0 v31 Gz
def cm_X36_rise (x0 : Nat) (Gz : GH) : Option GH :=
  Option.bind (cd_Lifts_hoist x0 Gz) fun v1 =>
  Option.bind (cd_Lifts_hoist x0 Gz) fun v7 =>
  Option.bind (cGetI Gz [19] v7 1) fun v12 =>
  Option.bind (cd_Lifts_hoist x0 Gz) fun v16 =>
  Option.bind (cGetI Gz [19] v16 1) fun v21 =>
  Option.bind (cCast Gz [19] v1) fun u24 =>
  Option.bind (cm_X12_near v1 v12 v21 Gz) fun G24 =>
  some G24
def cd_Lifts_rise (a : Nat) (G : GH) : Option GH :=
  if cT G a = 18 then cm_X36_rise a G else
  if cT G a = 20 then cm_X36_rise a G else
  if cT G a = 25 then cm_X36_rise a G else
  if cT G a = 27 then cm_X36_rise a G else
  none
def cm_X36_ease (x0 : Nat) (Gz : GH) : Option GH :=
  Option.bind (cd_Lifts_rise x0 Gz) fun G1 =>
  some G1
def cm_X9_size (x0 : Nat) (Gz : GH) : Option Int32 :=
  Option.bind (cGetI Gz [16] x0 2) fun v1 =>
  if 0 ≤ v1 then
    (Option.bind (cGetI Gz [16] x0 2) fun v16 =>
    some v16)
  else
    Option.bind (cGetI Gz [16] x0 2) fun v8 =>
    some (-v8)
def cm_X13_ease_J42 (s0 : Nat) (s1 : Int32) (s2 : Int32) (G : GH) : Option GH :=
  Option.bind (cCast G [19] s0) fun u42 =>
  Option.bind (cm_X12_near s0 s1 s2 G) fun G42 =>
  some G42
def cm_X13_ease (x0 : Nat) (Gz : GH) : Option GH :=
  Option.bind (cd_Turns_turn x0 Gz) fun G3 =>
  Option.bind (cGetR G3 [20] x0 4) fun v9 =>
  Option.bind (cGetR G3 [20] x0 4) fun v13 =>
  Option.bind (cGetI G3 [19] v13 1) fun v16 =>
  Option.bind (cGetR G3 [20] x0 3) fun v20 =>
  Option.bind (cCast G3 [16] v20) fun u23 =>
  Option.bind (cm_X9_size v20 G3) fun v23 =>
  if v23 ≤ 30 then
    (Option.bind (cGetR G3 [20] x0 4) fun v36 =>
    Option.bind (cGetI G3 [19] v36 1) fun v39 =>
    cm_X13_ease_J42 v9 v16 v39 G3)
  else
    cm_X13_ease_J42 v9 v16 0 G3
def cm_X14_ease (x0 : Nat) (Gz : GH) : Option GH :=
  Option.bind (cd_Turns_turn x0 Gz) fun G3 =>
  Option.bind (cGetR G3 [21] x0 4) fun v9 =>
  Option.bind (cGetR G3 [21] x0 4) fun v13 =>
  Option.bind (cGetI G3 [22] v13 0) fun v16 =>
  Option.bind (cGetR G3 [21] x0 3) fun v20 =>
  Option.bind (cCast G3 [16] v20) fun u23 =>
  Option.bind (cm_X9_size v20 G3) fun v23 =>
  Option.bind (cPutI G3 [22] v9 0 (if v23 < v16 then v23 else v16)) fun G29 =>
  some G29
def cm_X40_ease (x0 : Nat) (Gz : GH) : Option GH :=
  some Gz
def cm_X18_ease (x0 : Nat) (Gz : GH) : Option GH :=
  Option.bind (cGetR Gz [25] x0 3) fun v1 =>
  Option.bind (cGetR Gz [25] x0 3) fun v5 =>
  Option.bind (cGetI Gz [19] v5 1) fun v8 =>
  Option.bind (cGetR Gz [25] x0 3) fun v13 =>
  Option.bind (cGetI Gz [19] v13 1) fun v16 =>
  Option.bind (cCast Gz [19] v1) fun u20 =>
  Option.bind (cm_X12_near v1 v8 (2 * v16) Gz) fun G20 =>
  some G20
def cm_X20_ease_J39 (x1 : Nat) (s0 : Nat) (s1 : Int32) (G : GH) : Option GH :=
  Option.bind (cCast G [16] s0) fun u39 =>
  Option.bind (cm_X9_near s0 s1 G) fun G39 =>
  Option.bind (cd_Lifts_rise x1 G39) fun G43 =>
  some G43
def cm_X20_ease (x0 : Nat) (Gz : GH) : Option GH :=
  Option.bind (cGetR Gz [27] x0 3) fun v3 =>
  Option.bind (cGetR Gz [27] x0 4) fun v7 =>
  Option.bind (cGetI Gz [19] v7 2) fun v10 =>
  if v10 ≤ 0 then
    (Option.bind (cGetR Gz [27] x0 3) fun v33 =>
    Option.bind (cGetI Gz [16] v33 1) fun v36 =>
    cm_X20_ease_J39 x0 v3 v36 Gz)
  else
    Option.bind (cGetR Gz [27] x0 3) fun v18 =>
    Option.bind (cGetI Gz [16] v18 1) fun v21 =>
    cm_X20_ease_J39 x0 v3 (if 1 < (v21 / 2) then (v21 / 2) else 1) Gz
def cm_X21_leader (x0 : Nat) (Gz : GH) : Option Nat :=
  Option.bind (cGetR Gz [28] x0 4) fun v1 =>
  some v1
def cd_Hitched_leader (a : Nat) (G : GH) : Option Nat :=
  if cT G a = 28 then cm_X21_leader a G else
  none
def cm_X35_ease (x0 : Nat) (Gz : GH) : Option GH :=
  if cT Gz x0 = 28 then
    Option.bind (cd_Turns_spin x0 Gz) fun v1 =>
    Option.bind (cd_Hitched_leader x0 Gz) fun v7 =>
    Option.bind (cGetI Gz [16] v7 2) fun v12 =>
    Option.bind (cPutI Gz [16] v1 2 v12) fun G15 =>
    some G15
  else none
def cd_Machine_ease (a : Nat) (G : GH) : Option GH :=
  if cT G a = 14 then cm_X34_ease a G else
  if cT G a = 18 then cm_X36_ease a G else
  if cT G a = 20 then cm_X13_ease a G else
  if cT G a = 21 then cm_X14_ease a G else
  if cT G a = 23 then cm_X40_ease a G else
  if cT G a = 25 then cm_X18_ease a G else
  if cT G a = 26 then cm_X40_ease a G else
  if cT G a = 27 then cm_X20_ease a G else
  if cT G a = 28 then cm_X35_ease a G else
  none
def cm_X34_pull (x0 : Nat) (Gz : GH) : Option Int32 :=
  Option.bind (cd_Turns_spin x0 Gz) fun v1 =>
  Option.bind (cCast Gz [16] v1) fun u6 =>
  Option.bind (cm_X9_size v1 Gz) fun v6 =>
  Option.bind (cd_Turns_spin x0 Gz) fun v10 =>
  Option.bind (cGetI Gz [16] v10 0) fun v15 =>
  some ((v6 * v15) / 100)
def cd_Turns_pull (a : Nat) (G : GH) : Option Int32 :=
  if cT G a = 14 then cm_X34_pull a G else
  if cT G a = 20 then cm_X34_pull a G else
  if cT G a = 21 then cm_X34_pull a G else
  if cT G a = 27 then cm_X34_pull a G else
  if cT G a = 28 then cm_X34_pull a G else
  none
def cm_X34_draw (x0 : Nat) (Gz : GH) : Option Int32 :=
  Option.bind (cd_Turns_pull x0 Gz) fun v1 =>
  some v1
def cm_X36_heave (x0 : Nat) (Gz : GH) : Option Int32 :=
  Option.bind (cd_Lifts_hoist x0 Gz) fun v1 =>
  Option.bind (cGetI Gz [19] v1 4) fun v6 =>
  if v6 ≤ 0 then
    (some 0)
  else
    Option.bind (cd_Lifts_hoist x0 Gz) fun v13 =>
    Option.bind (cGetI Gz [19] v13 0) fun v18 =>
    some v18
def cd_Lifts_heave (a : Nat) (G : GH) : Option Int32 :=
  if cT G a = 18 then cm_X36_heave a G else
  if cT G a = 20 then cm_X36_heave a G else
  if cT G a = 25 then cm_X36_heave a G else
  if cT G a = 27 then cm_X36_heave a G else
  none
def cm_X36_draw (x0 : Nat) (Gz : GH) : Option Int32 :=
  Option.bind (cd_Lifts_heave x0 Gz) fun v1 =>
  some v1
def cm_X13_draw (x0 : Nat) (Gz : GH) : Option Int32 :=
  Option.bind (cd_Turns_pull x0 Gz) fun v5 =>
  Option.bind (cd_Lifts_heave x0 Gz) fun v11 =>
  some (if v5 < v11 then v11 else v5)
def cm_X37_hiss (x0 : Nat) (Gz : GH) : Option Int32 :=
  Option.bind (cd_Sounds_voice x0 Gz) fun v1 =>
  Option.bind (cGetI Gz [22] v1 0) fun v6 =>
  some (v6 / 2)
def cd_Sounds_hiss (a : Nat) (G : GH) : Option Int32 :=
  if cT G a = 21 then cm_X37_hiss a G else
  if cT G a = 25 then cm_X37_hiss a G else
  if cT G a = 26 then cm_X37_hiss a G else
  if cT G a = 27 then cm_X37_hiss a G else
  none
def cm_X14_draw (x0 : Nat) (Gz : GH) : Option Int32 :=
  Option.bind (cd_Turns_pull x0 Gz) fun v5 =>
  Option.bind (cd_Sounds_hiss x0 Gz) fun v11 =>
  some (v5 + v11)
def cm_X38_burn (x0 : Nat) (Gz : GH) : Option Int32 :=
  Option.bind (cd_Lamps_light x0 Gz) fun v1 =>
  Option.bind (cGetI Gz [24] v1 1) fun v6 =>
  Option.bind (cd_Lamps_light x0 Gz) fun v10 =>
  Option.bind (cGetI Gz [24] v10 0) fun v15 =>
  some ((v6 * v15) / 100)
def cd_Lamps_burn (a : Nat) (G : GH) : Option Int32 :=
  if cT G a = 23 then cm_X38_burn a G else
  if cT G a = 25 then cm_X38_burn a G else
  if cT G a = 26 then cm_X38_burn a G else
  if cT G a = 27 then cm_X38_burn a G else
  none
def cm_X38_draw (x0 : Nat) (Gz : GH) : Option Int32 :=
  Option.bind (cd_Lamps_burn x0 Gz) fun v1 =>
  some v1
def cm_X18_draw (x0 : Nat) (Gz : GH) : Option Int32 :=
  Option.bind (cd_Lifts_heave x0 Gz) fun v7 =>
  Option.bind (cd_Lamps_burn x0 Gz) fun v13 =>
  Option.bind (cd_Sounds_hiss x0 Gz) fun v20 =>
  some ((v7 + v13) + v20)
def cm_X19_draw (x0 : Nat) (Gz : GH) : Option Int32 :=
  Option.bind (cd_Lamps_burn x0 Gz) fun v5 =>
  Option.bind (cd_Sounds_hiss x0 Gz) fun v11 =>
  some (v5 + v11)
def cm_X20_draw (x0 : Nat) (Gz : GH) : Option Int32 :=
  Option.bind (cd_Turns_pull x0 Gz) fun v10 =>
  Option.bind (cd_Lifts_heave x0 Gz) fun v16 =>
  Option.bind (cd_Lamps_burn x0 Gz) fun v23 =>
  Option.bind (cd_Sounds_hiss x0 Gz) fun v30 =>
  some ((v10 + v16) + (if v23 < v30 then v30 else v23))
def cm_X35_draw (x0 : Nat) (Gz : GH) : Option Int32 :=
  if cT Gz x0 = 28 then
    Option.bind (cd_Turns_pull x0 Gz) fun v1 =>
    some (v1 / 2)
  else none
def cd_Machine_draw (a : Nat) (G : GH) : Option Int32 :=
  if cT G a = 14 then cm_X34_draw a G else
  if cT G a = 18 then cm_X36_draw a G else
  if cT G a = 20 then cm_X13_draw a G else
  if cT G a = 21 then cm_X14_draw a G else
  if cT G a = 23 then cm_X38_draw a G else
  if cT G a = 25 then cm_X18_draw a G else
  if cT G a = 26 then cm_X19_draw a G else
  if cT G a = 27 then cm_X20_draw a G else
  if cT G a = 28 then cm_X35_draw a G else
  none
def cm_X1_shed_J156 (k45 : Nat → Int32 → Int32 → GH → Option GH) (x0 : Nat) (x2 : Int32) (x3 : Int32) (G : GH) : Option GH :=
  k45 x0 x2 (x3 + (-1)) G
def cm_X1_shed_J113 (k45 : Nat → Int32 → Int32 → GH → Option GH) (x0 : Nat) (x2 : Int32) (x3 : Int32) (x4 : Nat) (x6 : Int32) (G : GH) : Option GH :=
  Option.bind (cm_X1_goals x4 G) fun G120 =>
  Option.bind (cm_X1_dark x4 G120) fun G125 =>
  Option.bind (cCast G125 [9] x0) fun u133 =>
  Option.bind (cm_X1_tell x0 3 x3 x6 G125) fun G133 =>
  Option.bind (cGetR G133 [14, 18, 20, 21, 23, 25, 26, 27, 28] x4 1) fun v138 =>
  Option.bind (cGetI G133 [15] v138 10) fun v141 =>
  if v141 = 0 then
    (Option.bind (cCast G133 [9] x0) fun u153 =>
    Option.bind (cm_X1_stalls x0 x3 x4 7 G133) fun G153 =>
    cm_X1_shed_J156 k45 x0 (x2 - x6) x3 G153)
  else
    cm_X1_shed_J156 k45 x0 (x2 - x6) x3 G133
def cm_X1_shed_B45 (k45 : Nat → Int32 → Int32 → GH → Option GH) (x0 : Nat) (x2 : Int32) (x3 : Int32) (G : GH) : Option GH :=
  if x3 < 0 then
    (some G)
  else
    Option.bind (cGetQ G [9] x0 4) fun v51 =>
    Option.bind v51 fun b54 =>
    Option.bind (cGetI G [11] b54 14) fun v54 =>
    if x2 ≤ v54 then
      (some G)
    else
      Option.bind (cGetQ G [9] x0 4) fun v61 =>
      Option.bind v61 fun b64 =>
      Option.bind (cGetR G [11] b64 10) fun v64 =>
      Option.bind (cCast G [3] v64) fun u68 =>
      Option.bind (cm_J6_get v64 x3 G) fun v68 =>
      Option.bind v68 fun b71 =>
      Option.bind (cCast G [14, 18, 20, 21, 23, 25, 26, 27, 28] b71) fun u71 =>
      Option.bind (cd_Machine_draw b71 G) fun v82 =>
      if v82 = 0 then
        (cm_X1_shed_J156 k45 x0 x2 x3 G)
      else
        Option.bind (cm_X1_hasGoal b71 G) fun v96 =>
        if v96 = 0 then
          (Option.bind (cm_X1_isBright b71 G) fun v104 =>
          if v104 = 0 then
            (cm_X1_shed_J156 k45 x0 x2 x3 G)
          else
            cm_X1_shed_J113 k45 x0 x2 x3 b71 v82 G)
        else
          cm_X1_shed_J113 k45 x0 x2 x3 b71 v82 G
def cm_X1_shed_L45 : Nat → Nat → Int32 → Int32 → GH → Option GH
  | 0 => fun _ _ _ _ => none
  | n + 1 => cm_X1_shed_B45 (cm_X1_shed_L45 n)
def cm_X1_shed_B4 (k4 : Nat → Int32 → Int32 → Int32 → GH → Option GH) (x0 : Nat) (x1 : Int32) (x2 : Int32) (x3 : Int32) (G : GH) : Option GH :=
  if x1 ≤ x3 then
    (cm_X1_shed_L45 gF x0 x2 (x1 - 1) G)
  else
    Option.bind (cGetQ G [9] x0 4) fun v10 =>
    Option.bind v10 fun b13 =>
    Option.bind (cGetR G [11] b13 10) fun v13 =>
    Option.bind (cCast G [3] v13) fun u17 =>
    Option.bind (cm_J6_get v13 x3 G) fun v17 =>
    Option.bind v17 fun b20 =>
    Option.bind (cCast G [14, 18, 20, 21, 23, 25, 26, 27, 28] b20) fun u20 =>
    Option.bind (cd_Machine_draw b20 G) fun v28 =>
    k4 x0 x1 (x2 + v28) (x3 + 1) G
def cm_X1_shed_L4 : Nat → Nat → Int32 → Int32 → Int32 → GH → Option GH
  | 0 => fun _ _ _ _ _ => none
  | n + 1 => cm_X1_shed_B4 (cm_X1_shed_L4 n)
def cm_X1_shed (x0 : Nat) (x1 : Int32) (Gz : GH) : Option GH :=
  cm_X1_shed_L4 gF x0 x1 0 0 Gz
def cm_X34_limit (x0 : Nat) (Gz : GH) : Option Int32 :=
  some 80
def cm_X36_limit (x0 : Nat) (Gz : GH) : Option Int32 :=
  some 60
def cm_X13_limit (x0 : Nat) (Gz : GH) : Option Int32 :=
  some 50
def cm_X40_limit (x0 : Nat) (Gz : GH) : Option Int32 :=
  some 200
def cm_X20_limit (x0 : Nat) (Gz : GH) : Option Int32 :=
  some 40
def cd_Machine_limit (a : Nat) (G : GH) : Option Int32 :=
  if cT G a = 14 then cm_X34_limit a G else
  if cT G a = 18 then cm_X36_limit a G else
  if cT G a = 20 then cm_X13_limit a G else
  if cT G a = 21 then cm_X34_limit a G else
  if cT G a = 23 then cm_X40_limit a G else
  if cT G a = 25 then cm_X36_limit a G else
  if cT G a = 26 then cm_X40_limit a G else
  if cT G a = 27 then cm_X20_limit a G else
  if cT G a = 28 then cm_X34_limit a G else
  none
def cm_X34_tear (x0 : Nat) (Gz : GH) : Option Int32 :=
  Option.bind (cd_Turns_spin x0 Gz) fun v1 =>
  Option.bind (cCast Gz [16] v1) fun u6 =>
  Option.bind (cm_X9_size v1 Gz) fun v6 =>
  some v6
def cm_X36_rub (x0 : Nat) (Gz : GH) : Option Int32 :=
  Option.bind (cd_Lifts_hoist x0 Gz) fun v1 =>
  Option.bind (cGetI Gz [19] v1 4) fun v6 =>
  if v6 = 0 then
    (some 0)
  else
    some 10
def cd_Lifts_rub (a : Nat) (G : GH) : Option Int32 :=
  if cT G a = 18 then cm_X36_rub a G else
  if cT G a = 20 then cm_X36_rub a G else
  if cT G a = 25 then cm_X36_rub a G else
  if cT G a = 27 then cm_X36_rub a G else
  none
def cm_X36_tear (x0 : Nat) (Gz : GH) : Option Int32 :=
  Option.bind (cd_Lifts_rub x0 Gz) fun v1 =>
  some v1
def cm_X13_tear (x0 : Nat) (Gz : GH) : Option Int32 :=
  Option.bind (cGetR Gz [20] x0 3) fun v3 =>
  Option.bind (cCast Gz [16] v3) fun u6 =>
  Option.bind (cm_X9_size v3 Gz) fun v6 =>
  Option.bind (cd_Lifts_rub x0 Gz) fun v10 =>
  some (v6 + v10)
def cm_X40_tear (x0 : Nat) (Gz : GH) : Option Int32 :=
  some 0
def cm_X18_tear (x0 : Nat) (Gz : GH) : Option Int32 :=
  Option.bind (cd_Lifts_rub x0 Gz) fun v4 =>
  some (2 * v4)
def cm_X20_tear (x0 : Nat) (Gz : GH) : Option Int32 :=
  Option.bind (cGetR Gz [27] x0 3) fun v3 =>
  Option.bind (cCast Gz [16] v3) fun u6 =>
  Option.bind (cm_X9_size v3 Gz) fun v6 =>
  Option.bind (cd_Lifts_rub x0 Gz) fun v10 =>
  some (v6 + v10)
def cd_Machine_tear (a : Nat) (G : GH) : Option Int32 :=
  if cT G a = 14 then cm_X34_tear a G else
  if cT G a = 18 then cm_X36_tear a G else
  if cT G a = 20 then cm_X13_tear a G else
  if cT G a = 21 then cm_X34_tear a G else
  if cT G a = 23 then cm_X40_tear a G else
  if cT G a = 25 then cm_X18_tear a G else
  if cT G a = 26 then cm_X40_tear a G else
  if cT G a = 27 then cm_X20_tear a G else
  if cT G a = 28 then cm_X34_tear a G else
  none
def cm_X1_once_B249 (k249 : Nat → Int32 → Int32 → GH → Option GH) (x0 : Nat) (x1 : Int32) (x2 : Int32) (G : GH) : Option GH :=
  if x1 ≤ x2 then
    (some G)
  else
    Option.bind (cGetQ G [9] x0 4) fun v255 =>
    Option.bind v255 fun b258 =>
    Option.bind (cGetR G [11] b258 10) fun v258 =>
    Option.bind (cCast G [3] v258) fun u262 =>
    Option.bind (cm_J6_get v258 x2 G) fun v262 =>
    Option.bind v262 fun b265 =>
    Option.bind (cCast G [14, 18, 20, 21, 23, 25, 26, 27, 28] b265) fun u265 =>
    Option.bind (cGetI G [14, 18, 20, 21, 23, 25, 26, 27, 28] b265 2) fun v277 =>
    Option.bind (cd_Machine_tear b265 G) fun v282 =>
    Option.bind (cPutI G [14, 18, 20, 21, 23, 25, 26, 27, 28] b265 2 (if (v277 + v282) < 9999 then (v277 + v282) else 9999)) fun G291 =>
    k249 x0 x1 (x2 + 1) G291
def cm_X1_once_L249 : Nat → Nat → Int32 → Int32 → GH → Option GH
  | 0 => fun _ _ _ _ => none
  | n + 1 => cm_X1_once_B249 (cm_X1_once_L249 n)
def cm_X1_once_J241 (k173 : Nat → Int32 → Int32 → GH → Option GH) (x0 : Nat) (x1 : Int32) (x2 : Int32) (G : GH) : Option GH :=
  k173 x0 x1 (x2 + 1) G
def cm_X1_once_B173 (k173 : Nat → Int32 → Int32 → GH → Option GH) (x0 : Nat) (x1 : Int32) (x2 : Int32) (G : GH) : Option GH :=
  if x1 ≤ x2 then
    (cm_X1_once_L249 gF x0 x1 0 G)
  else
    Option.bind (cGetQ G [9] x0 4) fun v179 =>
    Option.bind v179 fun b182 =>
    Option.bind (cGetR G [11] b182 10) fun v182 =>
    Option.bind (cCast G [3] v182) fun u186 =>
    Option.bind (cm_J6_get v182 x2 G) fun v186 =>
    Option.bind v186 fun b189 =>
    Option.bind (cCast G [14, 18, 20, 21, 23, 25, 26, 27, 28] b189) fun u189 =>
    Option.bind (cd_Machine_limit b189 G) fun v198 =>
    Option.bind (cGetI G [9] x0 6) fun v204 =>
    if v204 ≤ v198 then
      (cm_X1_once_J241 k173 x0 x1 x2 G)
    else
      Option.bind (cm_X1_hasGoal b189 G) fun v211 =>
      if v211 = 0 then
        (cm_X1_once_J241 k173 x0 x1 x2 G)
      else
        Option.bind (cm_X1_goals b189 G) fun G221 =>
        Option.bind (cGetR G221 [14, 18, 20, 21, 23, 25, 26, 27, 28] b189 1) fun v225 =>
        Option.bind (cGetI G221 [15] v225 10) fun v228 =>
        if v228 = 0 then
          (Option.bind (cCast G221 [9] x0) fun u238 =>
          Option.bind (cm_X1_stalls x0 x2 b189 4 G221) fun G238 =>
          cm_X1_once_J241 k173 x0 x1 x2 G238)
        else
          cm_X1_once_J241 k173 x0 x1 x2 G221
def cm_X1_once_L173 : Nat → Nat → Int32 → Int32 → GH → Option GH
  | 0 => fun _ _ _ _ => none
  | n + 1 => cm_X1_once_B173 (cm_X1_once_L173 n)
def cm_X1_once_B134 (k134 : Nat → Int32 → Int32 → GH → Option GH) (x0 : Nat) (x1 : Int32) (x2 : Int32) (G : GH) : Option GH :=
  if x1 ≤ x2 then
    (Option.bind (cCast G [9] x0) fun u168 =>
    Option.bind (cm_X1_shed x0 x1 G) fun G168 =>
    cm_X1_once_L173 gF x0 x1 0 G168)
  else
    Option.bind (cGetQ G [9] x0 4) fun v140 =>
    Option.bind v140 fun b143 =>
    Option.bind (cGetR G [11] b143 10) fun v143 =>
    Option.bind (cCast G [3] v143) fun u147 =>
    Option.bind (cm_J6_get v143 x2 G) fun v147 =>
    Option.bind v147 fun b150 =>
    Option.bind (cCast G [14, 18, 20, 21, 23, 25, 26, 27, 28] b150) fun u150 =>
    Option.bind (cd_Machine_ease b150 G) fun G155 =>
    k134 x0 x1 (x2 + 1) G155
def cm_X1_once_L134 : Nat → Nat → Int32 → Int32 → GH → Option GH
  | 0 => fun _ _ _ _ => none
  | n + 1 => cm_X1_once_B134 (cm_X1_once_L134 n)
def cm_X1_once_B102 (k102 : Nat → Int32 → Int32 → GH → Option GH) (x0 : Nat) (x1 : Int32) (x2 : Int32) (G : GH) : Option GH :=
  if x1 ≤ x2 then
    (cm_X1_once_L134 gF x0 x1 0 G)
  else
    Option.bind (cGetQ G [9] x0 4) fun v110 =>
    Option.bind v110 fun b113 =>
    Option.bind (cGetR G [11] b113 10) fun v113 =>
    Option.bind (cCast G [3] v113) fun u117 =>
    Option.bind (cm_J6_get v113 x2 G) fun v117 =>
    Option.bind v117 fun b120 =>
    Option.bind (cCast G [14, 18, 20, 21, 23, 25, 26, 27, 28] b120) fun u120 =>
    Option.bind (cCast G [9] x0) fun u123 =>
    Option.bind (cm_X1_goesOn x0 x2 b120 G) fun G123 =>
    k102 x0 x1 (x2 + 1) G123
def cm_X1_once_L102 : Nat → Nat → Int32 → Int32 → GH → Option GH
  | 0 => fun _ _ _ _ => none
  | n + 1 => cm_X1_once_B102 (cm_X1_once_L102 n)
def cm_X1_once_J94 (k23 : Nat → Int32 → Int32 → GH → Option GH) (x0 : Nat) (x1 : Int32) (x2 : Int32) (G : GH) : Option GH :=
  k23 x0 x1 (x2 + 1) G
def cm_X1_once_B23 (k23 : Nat → Int32 → Int32 → GH → Option GH) (x0 : Nat) (x1 : Int32) (x2 : Int32) (G : GH) : Option GH :=
  if x1 ≤ x2 then
    (cm_X1_once_L102 gF x0 x1 0 G)
  else
    Option.bind (cGetQ G [9] x0 4) fun v29 =>
    Option.bind v29 fun b32 =>
    Option.bind (cGetR G [11] b32 10) fun v32 =>
    Option.bind (cCast G [3] v32) fun u36 =>
    Option.bind (cm_J6_get v32 x2 G) fun v36 =>
    Option.bind v36 fun b43 =>
    Option.bind (cInst G [14, 18, 20, 26, 27, 28] [21, 23, 25] b43) fun v43 =>
    if v43 = 0 then
      (cm_X1_once_J94 k23 x0 x1 x2 G)
    else
      Option.bind (cCast G [14, 18, 20, 26, 27, 28] b43) fun u51 =>
      Option.bind (cd_Seats_bench b43 G) fun v56 =>
      Option.bind (cGetI G [9] x0 5) fun v62 =>
      Option.bind (cCast G [17] v56) fun u65 =>
      Option.bind (cm_X10_tire v56 v62 G) fun qx65 =>
      Option.bind (cGetI qx65.2 [9] x0 9) fun v72 =>
      Option.bind (cPutI qx65.2 [9] x0 9 (v72 + qx65.1)) fun G78 =>
      if qx65.1 ≤ 0 then
        (cm_X1_once_J94 k23 x0 x1 x2 G78)
      else
        Option.bind (cCast G78 [9] x0) fun u91 =>
        Option.bind (cm_X1_tell x0 4 x2 qx65.1 G78) fun G91 =>
        cm_X1_once_J94 k23 x0 x1 x2 G91
def cm_X1_once_L23 : Nat → Nat → Int32 → Int32 → GH → Option GH
  | 0 => fun _ _ _ _ => none
  | n + 1 => cm_X1_once_B23 (cm_X1_once_L23 n)
def cm_X1_once (x0 : Nat) (Gz : GH) : Option GH :=
  Option.bind (cGetI Gz [9] x0 5) fun v2 =>
  Option.bind (cPutI Gz [9] x0 5 (v2 + 1)) fun G7 =>
  Option.bind (cGetQ G7 [9] x0 4) fun v11 =>
  Option.bind v11 fun b14 =>
  Option.bind (cGetR G7 [11] b14 10) fun v14 =>
  Option.bind (cCast G7 [3] v14) fun u17 =>
  Option.bind (cm_J6_size v14 G7) fun v17 =>
  cm_X1_once_L23 gF x0 v17 0 G7
def cm_X1_open (x0 : Nat) (Gz : GH) : Option (GX Unit) :=
  Option.bind (cCast Gz [9] x0) fun u1 =>
  gXb (cm_X1_isFair x0 Gz) fun qx1 =>
  Option.bind (cCast qx1.2 [9] x0) fun u5 =>
  Option.bind (cm_X1_begin x0 qx1.2) fun G5 =>
  some (.inl ((), G5))
def cm_X34_hum (x0 : Nat) (Gz : GH) : Option Int32 :=
  Option.bind (cd_Turns_spin x0 Gz) fun v1 =>
  Option.bind (cCast Gz [16] v1) fun u6 =>
  Option.bind (cm_X9_size v1 Gz) fun v6 =>
  some (v6 / 2)
def cd_Turns_hum (a : Nat) (G : GH) : Option Int32 :=
  if cT G a = 14 then cm_X34_hum a G else
  if cT G a = 20 then cm_X34_hum a G else
  if cT G a = 21 then cm_X34_hum a G else
  if cT G a = 27 then cm_X34_hum a G else
  if cT G a = 28 then cm_X34_hum a G else
  none
def cm_X34_noise (x0 : Nat) (Gz : GH) : Option Int32 :=
  Option.bind (cd_Turns_hum x0 Gz) fun v1 =>
  some v1
def cm_X36_creak (x0 : Nat) (Gz : GH) : Option Int32 :=
  Option.bind (cd_Lifts_hoist x0 Gz) fun v1 =>
  Option.bind (cGetI Gz [19] v1 4) fun v6 =>
  if v6 = 0 then
    (some 0)
  else
    some 5
def cd_Lifts_creak (a : Nat) (G : GH) : Option Int32 :=
  if cT G a = 18 then cm_X36_creak a G else
  if cT G a = 20 then cm_X36_creak a G else
  if cT G a = 25 then cm_X36_creak a G else
  if cT G a = 27 then cm_X36_creak a G else
  none
def cm_X36_noise (x0 : Nat) (Gz : GH) : Option Int32 :=
  Option.bind (cd_Lifts_creak x0 Gz) fun v1 =>
  some v1
def cm_X13_noise (x0 : Nat) (Gz : GH) : Option Int32 :=
  Option.bind (cd_Turns_hum x0 Gz) fun v5 =>
  Option.bind (cd_Lifts_creak x0 Gz) fun v11 =>
  some (if v5 < v11 then v11 else v5)
def cm_X14_noise (x0 : Nat) (Gz : GH) : Option Int32 :=
  Option.bind (cGetR Gz [21] x0 3) fun v1 =>
  Option.bind (cGetI Gz [16] v1 2) fun v4 =>
  if v4 = 0 then
    (Option.bind (cGetR Gz [21] x0 4) fun v11 =>
    Option.bind (cGetI Gz [22] v11 0) fun v14 =>
    some v14)
  else
    Option.bind (cGetR Gz [21] x0 4) fun v21 =>
    Option.bind (cGetI Gz [22] v21 0) fun v24 =>
    some (v24 + 10)
def cm_X40_noise (x0 : Nat) (Gz : GH) : Option Int32 :=
  some 0
def cm_X18_noise (x0 : Nat) (Gz : GH) : Option Int32 :=
  Option.bind (cd_Lifts_creak x0 Gz) fun v3 =>
  Option.bind (cGetR Gz [25] x0 5) fun v9 =>
  Option.bind (cGetI Gz [22] v9 0) fun v12 =>
  some (if v3 < v12 then v12 else v3)
def cm_X19_noise (x0 : Nat) (Gz : GH) : Option Int32 :=
  Option.bind (cGetR Gz [26] x0 5) fun v1 =>
  Option.bind (cGetI Gz [22] v1 0) fun v4 =>
  some (v4 / 2)
def cm_X20_noise (x0 : Nat) (Gz : GH) : Option Int32 :=
  Option.bind (cd_Turns_hum x0 Gz) fun v5 =>
  Option.bind (cd_Lifts_creak x0 Gz) fun v11 =>
  Option.bind (cGetR Gz [27] x0 7) fun v20 =>
  Option.bind (cGetI Gz [22] v20 0) fun v23 =>
  some (if (if v5 < v11 then v11 else v5) < v23 then v23 else (if v5 < v11 then v11 else v5))
def cm_X35_noise (x0 : Nat) (Gz : GH) : Option Int32 :=
  some 0
def cd_Machine_noise (a : Nat) (G : GH) : Option Int32 :=
  if cT G a = 14 then cm_X34_noise a G else
  if cT G a = 18 then cm_X36_noise a G else
  if cT G a = 20 then cm_X13_noise a G else
  if cT G a = 21 then cm_X14_noise a G else
  if cT G a = 23 then cm_X40_noise a G else
  if cT G a = 25 then cm_X18_noise a G else
  if cT G a = 26 then cm_X19_noise a G else
  if cT G a = 27 then cm_X20_noise a G else
  if cT G a = 28 then cm_X35_noise a G else
  none
def cm_X1_says_J24 (x2 : Int32) (x3 : Nat) (s0 : Int32) (G : GH) : Option (GX Int32) :=
  gXb (cm_X1_there s0 G) fun qx24 =>
  if x2 = 0 then
    (Option.bind (cd_Machine_draw x3 qx24.2) fun v61 =>
    some (.inl (v61, qx24.2)))
  else
  if x2 = 1 then
    (Option.bind (cd_Machine_noise x3 qx24.2) fun v68 =>
    some (.inl (v68, qx24.2)))
  else
  if x2 = 2 then
    (Option.bind (cd_Machine_tear x3 qx24.2) fun v75 =>
    some (.inl (v75, qx24.2)))
  else
  if x2 = 3 then
    (Option.bind (cd_Machine_isCalm x3 qx24.2) fun v82 =>
    if v82 = 0 then
      (some (.inl (0, qx24.2)))
    else
      some (.inl (1, qx24.2)))
  else
    Option.bind (cd_Machine_limit x3 qx24.2) fun v97 =>
    some (.inl (v97, qx24.2))
def cm_X1_says_J23 (x2 : Int32) (x3 : Nat) (G : GH) : Option (GX Int32) :=
  cm_X1_says_J24 x2 x3 0 G
def cm_X1_says (x0 : Nat) (x1 : Int32) (x2 : Int32) (Gz : GH) : Option (GX Int32) :=
  Option.bind (cCast Gz [9] x0) fun u1 =>
  gXb (cm_X1_isFair x0 Gz) fun qx1 =>
  Option.bind (cCast qx1.2 [9] x0) fun u6 =>
  gXb (cm_X1_rideAt x0 x1 qx1.2) fun qx6 =>
  if x2 < 0 then
    (cm_X1_says_J23 x2 qx6.1 qx6.2)
  else
    if 4 < x2 then
      (cm_X1_says_J23 x2 qx6.1 qx6.2)
    else
      cm_X1_says_J24 x2 qx6.1 1 qx6.2
def cm_X8_place_J19 (Gz : GH) : Option Int32 :=
  some (-1)
def cm_X8_place (x0 : Nat) (Gz : GH) : Option Int32 :=
  Option.bind (cGetI Gz [15] x0 10) fun v1 =>
  if v1 = 0 then
    (Option.bind (cCast Gz [15] x0) fun u8 =>
    Option.bind (cm_X8_now x0 Gz) fun v8 =>
    Option.bind (cGetI Gz [29] v8 0) fun v11 =>
    if v11 = 23 then
      (cm_X8_place_J19 Gz)
    else
      Option.bind (cCast Gz [15] x0) fun u24 =>
      Option.bind (cm_X8_now x0 Gz) fun v24 =>
      Option.bind (cGetI Gz [29] v24 1) fun v27 =>
      some v27)
  else
    cm_X8_place_J19 Gz
def cm_X1_script_J28 (x2 : Int32) (x3 : Nat) (s0 : Int32) (G : GH) : Option (GX Int32) :=
  gXb (cm_X1_there s0 G) fun qx28 =>
  if x2 = 0 then
    (Option.bind (cGetI qx28.2 [15] x3 10) fun v65 =>
    some (.inl (v65, qx28.2)))
  else
  if x2 = 1 then
    (Option.bind (cGetI qx28.2 [15] x3 9) fun v70 =>
    some (.inl (v70, qx28.2)))
  else
  if x2 = 2 then
    (Option.bind (cCast qx28.2 [15] x3) fun u75 =>
    Option.bind (cm_X8_place x3 qx28.2) fun v75 =>
    some (.inl (v75, qx28.2)))
  else
  if x2 = 3 then
    (Option.bind (cGetI qx28.2 [15] x3 11) fun v80 =>
    some (.inl (v80, qx28.2)))
  else
    Option.bind (cGetR qx28.2 [15] x3 1) fun v85 =>
    Option.bind (cAldI qx28.2 v85 (x2 - 4)) fun v91 =>
    some (.inl (v91, qx28.2))
def cm_X1_script_J27 (x2 : Int32) (x3 : Nat) (G : GH) : Option (GX Int32) :=
  cm_X1_script_J28 x2 x3 0 G
def cm_X1_script (x0 : Nat) (x1 : Int32) (x2 : Int32) (Gz : GH) : Option (GX Int32) :=
  Option.bind (cCast Gz [9] x0) fun u1 =>
  gXb (cm_X1_isFair x0 Gz) fun qx1 =>
  Option.bind (cCast qx1.2 [9] x0) fun u6 =>
  gXb (cm_X1_rideAt x0 x1 qx1.2) fun qx6 =>
  Option.bind (cGetR qx6.2 [14, 18, 20, 21, 23, 25, 26, 27, 28] qx6.1 1) fun v9 =>
  if x2 < 0 then
    (cm_X1_script_J27 x2 v9 qx6.2)
  else
    if 7 < x2 then
      (cm_X1_script_J27 x2 v9 qx6.2)
    else
      cm_X1_script_J28 x2 v9 1 qx6.2
def cm_X1_set (x0 : Nat) (x1 : Int32) (x2 : Int32) (Gz : GH) : Option (GX Int32) :=
  Option.bind (cCast Gz [9] x0) fun u2 =>
  gXb (cm_X1_isUp x0 x1 Gz) fun qx2 =>
  Option.bind (cGetR qx2.2 [9] x0 11) fun v7 =>
  Option.bind (cAstB qx2.2 v7 x1 x2) fun G12 =>
  if qx2.1 = x2 then
    (mZr 0 (.inl (0, G12)))
  else
    mZr 1 (.inl (1, G12))
def cm_X1_tick_B30 (k30 : Nat → Int32 → Int32 → Int32 → GH → Option (GX Int32)) (x0 : Nat) (x1 : Int32) (x2 : Int32) (x3 : Int32) (G : GH) : Option (GX Int32) :=
  if x1 ≤ x3 then
    (Option.bind (cGetI G [9] x0 16) fun v46 =>
    some (.inl ((v46 - x2), G)))
  else
    Option.bind (cCast G [9] x0) fun u36 =>
    Option.bind (cm_X1_once x0 G) fun G36 =>
    k30 x0 x1 x2 (x3 + 1) G36
def cm_X1_tick_L30 : Nat → Nat → Int32 → Int32 → Int32 → GH → Option (GX Int32)
  | 0 => fun _ _ _ _ _ => none
  | n + 1 => cm_X1_tick_B30 (cm_X1_tick_L30 n)
def cm_X1_tick_J20 (x0 : Nat) (x1 : Int32) (s0 : Int32) (G : GH) : Option (GX Int32) :=
  gXb (cm_X1_need s0 G) fun qx20 =>
  Option.bind (cGetI qx20.2 [9] x0 16) fun v24 =>
  cm_X1_tick_L30 gF x0 x1 v24 0 qx20.2
def cm_X1_tick_J19 (x0 : Nat) (x1 : Int32) (G : GH) : Option (GX Int32) :=
  cm_X1_tick_J20 x0 x1 0 G
def cm_X1_tick (x0 : Nat) (x1 : Int32) (Gz : GH) : Option (GX Int32) :=
  Option.bind (cCast Gz [9] x0) fun u1 =>
  gXb (cm_X1_isFair x0 Gz) fun qx1 =>
  if x1 < 1 then
    (cm_X1_tick_J19 x0 x1 qx1.2)
  else
    if 100 < x1 then
      (cm_X1_tick_J19 x0 x1 qx1.2)
    else
      cm_X1_tick_J20 x0 x1 1 qx1.2
def cm_X1_total_J96 (k32 : Nat → Int32 → Int32 → Int32 → Int32 → Int32 → GH → Option (GX Int32)) (x0 : Nat) (x1 : Int32) (x2 : Int32) (x3 : Int32) (x4 : Int32) (x5 : Int32) (x7 : Nat) (G : GH) : Option (GX Int32) :=
  Option.bind (cd_Machine_draw x7 G) fun v99 =>
  Option.bind (cd_Machine_noise x7 G) fun v110 =>
  k32 x0 x1 x2 (x3 + v99) (if x4 < v110 then v110 else x4) (x5 + 1) G
def cm_X1_total_B32 (k32 : Nat → Int32 → Int32 → Int32 → Int32 → Int32 → GH → Option (GX Int32)) (x0 : Nat) (x1 : Int32) (x2 : Int32) (x3 : Int32) (x4 : Int32) (x5 : Int32) (G : GH) : Option (GX Int32) :=
  Option.bind (cGetQ G [9] x0 4) fun v35 =>
  Option.bind v35 fun b38 =>
  Option.bind (cGetR G [11] b38 10) fun v38 =>
  Option.bind (cCast G [3] v38) fun u41 =>
  Option.bind (cm_J6_size v38 G) fun v41 =>
  if v41 ≤ x5 then
    (if x1 = 0 then
      (Option.bind (cGetI G [9] x0 5) fun v169 =>
      some (.inl (v169, G)))
    else
    if x1 = 1 then
      (Option.bind (cGetI G [9] x0 8) fun v174 =>
      some (.inl (v174, G)))
    else
    if x1 = 2 then
      (Option.bind (cGetI G [9] x0 9) fun v179 =>
      some (.inl (v179, G)))
    else
    if x1 = 3 then
      (some (.inl (x2, G)))
    else
    if x1 = 4 then
      (Option.bind (cGetI G [9] x0 16) fun v186 =>
      some (.inl (v186, G)))
    else
    if x1 = 5 then
      (some (.inl (x3, G)))
    else
    if x1 = 6 then
      (some (.inl (x4, G)))
    else
      Option.bind (cGetI G [9] x0 6) fun v196 =>
      some (.inl (v196, G)))
  else
    Option.bind (cGetQ G [9] x0 4) fun v48 =>
    Option.bind v48 fun b51 =>
    Option.bind (cGetR G [11] b51 10) fun v51 =>
    Option.bind (cCast G [3] v51) fun u56 =>
    Option.bind (cm_J6_get v51 x5 G) fun v56 =>
    Option.bind v56 fun b59 =>
    Option.bind (cCast G [14, 18, 20, 21, 23, 25, 26, 27, 28] b59) fun u59 =>
    Option.bind (cInst G [14, 18, 20, 26, 27, 28] [21, 23, 25] b59) fun v70 =>
    if v70 = 0 then
      (cm_X1_total_J96 k32 x0 x1 x2 x3 x4 x5 b59 G)
    else
      Option.bind (cCast G [14, 18, 20, 26, 27, 28] b59) fun u78 =>
      Option.bind (cd_Seats_bench b59 G) fun v86 =>
      Option.bind (cGetI G [17] v86 7) fun v91 =>
      cm_X1_total_J96 k32 x0 x1 (x2 + v91) x3 x4 x5 b59 G
def cm_X1_total_L32 : Nat → Nat → Int32 → Int32 → Int32 → Int32 → Int32 → GH → Option (GX Int32)
  | 0 => fun _ _ _ _ _ _ _ => none
  | n + 1 => cm_X1_total_B32 (cm_X1_total_L32 n)
def cm_X1_total_J19 (x0 : Nat) (x1 : Int32) (s0 : Int32) (G : GH) : Option (GX Int32) :=
  gXb (cm_X1_there s0 G) fun qx19 =>
  cm_X1_total_L32 gF x0 x1 0 0 0 0 qx19.2
def cm_X1_total_J18 (x0 : Nat) (x1 : Int32) (G : GH) : Option (GX Int32) :=
  cm_X1_total_J19 x0 x1 0 G
def cm_X1_total (x0 : Nat) (x1 : Int32) (Gz : GH) : Option (GX Int32) :=
  Option.bind (cCast Gz [9] x0) fun u1 =>
  gXb (cm_X1_isFair x0 Gz) fun qx1 =>
  if x1 < 0 then
    (cm_X1_total_J18 x0 x1 qx1.2)
  else
    if 7 < x1 then
      (cm_X1_total_J18 x0 x1 qx1.2)
    else
      cm_X1_total_J19 x0 x1 1 qx1.2
def cm_X1_wind_J20 (x0 : Nat) (x1 : Int32) (s0 : Int32) (G : GH) : Option (GX Int32) :=
  gXb (cm_X1_need s0 G) fun qx20 =>
  Option.bind (cGetI qx20.2 [9] x0 6) fun v24 =>
  Option.bind (cPutI qx20.2 [9] x0 6 x1) fun G30 =>
  some (.inl (v24, G30))
def cm_X1_wind_J19 (x0 : Nat) (x1 : Int32) (G : GH) : Option (GX Int32) :=
  cm_X1_wind_J20 x0 x1 0 G
def cm_X1_wind (x0 : Nat) (x1 : Int32) (Gz : GH) : Option (GX Int32) :=
  Option.bind (cCast Gz [9] x0) fun u1 =>
  gXb (cm_X1_isFair x0 Gz) fun qx1 =>
  if x1 < 0 then
    (cm_X1_wind_J19 x0 x1 qx1.2)
  else
    if 199 < x1 then
      (cm_X1_wind_J19 x0 x1 qx1.2)
    else
      cm_X1_wind_J20 x0 x1 1 qx1.2
def cm_X22_init (x0 : Nat) (x1 : Int32) (x2 : Int32) (Gz : GH) : Option GH :=
  Option.bind (cPutI Gz [29] x0 0 x1) fun G6 =>
  Option.bind (cPutI G6 [29] x0 1 x2) fun G11 =>
  some G11
def cm_J4_init (x0 : Nat) (Gz : GH) : Option GH :=
  some Gz
def cm_J5_init (x0 : Nat) (Gz : GH) : Option GH :=
  Option.bind (cm_J4_init x0 Gz) fun G1 =>
  Option.bind (cPutI G1 [3] x0 0 0) fun G6 =>
  some G6
def cm_J6_init (x0 : Nat) (Gz : GH) : Option GH :=
  Option.bind (cm_J5_init x0 Gz) fun G1 =>
  Option.bind (cPutR G1 [3] x0 1 (some (cK G1 20))) fun G8 =>
  some G8
def cm_X8_init (x0 : Nat) (Gz : GH) : Option GH :=
  Option.bind (cNew Gz 2 3) fun qx5 =>
  Option.bind (cm_J6_init qx5.1 qx5.2) fun G9 =>
  Option.bind (cPutR G9 [15] x0 0 (some qx5.1)) fun G12 =>
  Option.bind (cNewA G12 100 4) fun qx17 =>
  Option.bind (cPutR qx17.2 [15] x0 1 (some qx17.1)) fun G19 =>
  Option.bind (cNewA G19 100 6) fun qx25 =>
  Option.bind (cPutR qx25.2 [15] x0 2 (some qx25.1)) fun G27 =>
  Option.bind (cNewA G27 100 11) fun qx33 =>
  Option.bind (cPutR qx33.2 [15] x0 3 (some qx33.1)) fun G35 =>
  Option.bind (cNewA G35 100 11) fun qx41 =>
  Option.bind (cPutR qx41.2 [15] x0 4 (some qx41.1)) fun G43 =>
  Option.bind (cNewA G43 101 11) fun qx49 =>
  Option.bind (cPutR qx49.2 [15] x0 5 (some qx49.1)) fun G51 =>
  some G51
def cm_X6_init (x0 : Nat) (x1 : Int32) (Gz : GH) : Option GH :=
  Option.bind (cNew Gz 14 13) fun qx5 =>
  Option.bind (cm_X8_init qx5.1 qx5.2) fun G9 =>
  Option.bind (cPutR G9 [14, 18, 20, 21, 23, 25, 26, 27, 28] x0 1 (some qx5.1)) fun G12 =>
  Option.bind (cPutI G12 [14, 18, 20, 21, 23, 25, 26, 27, 28] x0 0 x1) fun G17 =>
  some G17
def cm_X17_init (x0 : Nat) (x1 : Int32) (Gz : GH) : Option GH :=
  Option.bind (cPutI Gz [24] x0 0 x1) fun G6 =>
  some G6
def cm_X16_init (x0 : Nat) (x1 : Nat) (Gz : GH) : Option GH :=
  Option.bind (cm_X6_init x0 4 Gz) fun G2 =>
  Option.bind (cNew G2 23 2) fun qx6 =>
  Option.bind (cAldI qx6.2 x1 0) fun v12 =>
  Option.bind (cm_X17_init qx6.1 v12 qx6.2) fun G13 =>
  Option.bind (cPutR G13 [23] x0 3 (some qx6.1)) fun G16 =>
  some G16
def cm_X10_init (x0 : Nat) (x1 : Int32) (Gz : GH) : Option GH :=
  Option.bind (cNewA Gz 100 30) fun qx7 =>
  Option.bind (cPutR qx7.2 [17] x0 1 (some qx7.1)) fun G9 =>
  Option.bind (cNewA G9 100 30) fun qx15 =>
  Option.bind (cPutR qx15.2 [17] x0 2 (some qx15.1)) fun G17 =>
  Option.bind (cPutI G17 [17] x0 0 x1) fun G22 =>
  some G22
def cm_X23_init (x0 : Nat) (Gz : GH) : Option GH :=
  some Gz
def cm_J6_init_2 (x0 : Nat) (x1 : Int32) (Gz : GH) : Option GH :=
  Option.bind (cm_J5_init x0 Gz) fun G1 =>
  if x1 ≤ 0 then
    (if x1 = 0 then
      (Option.bind (cPutR G1 [3] x0 1 (some (cK G1 21))) fun G27 =>
      some G27)
    else
      Option.bind (cNew G1 1 6) fun qx33 =>
      Option.bind (cNew qx33.2 3 4) fun qx37 =>
      none)
  else
    Option.bind (cNewA G1 104 x1) fun qx10 =>
    Option.bind (cPutR qx10.2 [3] x0 1 (some qx10.1)) fun G13 =>
    some G13
def cm_X29_init (x0 : Nat) (x1 : Nat) (Gz : GH) : Option GH :=
  Option.bind (cm_X23_init x0 Gz) fun G1 =>
  Option.bind (cNew G1 2 3) fun qx5 =>
  Option.bind (cm_J6_init_2 qx5.1 2 qx5.2) fun G10 =>
  Option.bind (cPutR G10 [35] x0 1 (some qx5.1)) fun G13 =>
  Option.bind (cNewA G13 102 2) fun qx18 =>
  Option.bind (cPutR qx18.2 [35] x0 2 (some qx18.1)) fun G20 =>
  Option.bind (cPutR G20 [35] x0 0 (some x1)) fun G25 =>
  some G25
def cm_J11_newLength_J21 (x0 : Int32) (x1 : Int32) (Gz : GH) : Option Int32 :=
  none
def cm_J11_newLength (x0 : Int32) (x1 : Int32) (x2 : Int32) (Gz : GH) : Option Int32 :=
  if (x0 + (if x1 < x2 then x2 else x1)) ≤ 0 then
    (cm_J11_newLength_J21 x0 x1 Gz)
  else
    if 2147483639 < (x0 + (if x1 < x2 then x2 else x1)) then
      (cm_J11_newLength_J21 x0 x1 Gz)
    else
      some (x0 + (if x1 < x2 then x2 else x1))
def cm_J6_grow_2_J20 (x0 : Nat) (x1 : Int32) (x2 : Int32) (G : GH) : Option (Nat × GH) :=
  Option.bind (cm_J11_newLength x2 (x1 - x2) (x2 >>> (1 &&& 31)) G) fun v27 =>
  Option.bind (cGetR G [3] x0 1) fun v33 =>
  Option.bind (cCopyOf G v33 v27) fun qx37 =>
  Option.bind (cPutR qx37.2 [3] x0 1 (some qx37.1)) fun G41 =>
  some (qx37.1, G41)
def cm_J6_grow_2 (x0 : Nat) (x1 : Int32) (Gz : GH) : Option (Nat × GH) :=
  Option.bind (cGetR Gz [3] x0 1) fun v1 =>
  Option.bind (cLen Gz v1) fun v4 =>
  if 0 < v4 then
    (cm_J6_grow_2_J20 x0 x1 v4 Gz)
  else
    Option.bind (cGetR Gz [3] x0 1) fun v11 =>
    if (some v11 : Option Nat) = (some (cK Gz 20)) then
      (Option.bind (cNewA Gz 104 (if 10 < x1 then x1 else 10)) fun qx52 =>
      Option.bind (cPutR qx52.2 [3] x0 1 (some qx52.1)) fun G56 =>
      some (qx52.1, G56))
    else
      cm_J6_grow_2_J20 x0 x1 v4 Gz
def cm_J6_grow (x0 : Nat) (Gz : GH) : Option (Nat × GH) :=
  Option.bind (cGetI Gz [3] x0 2) fun v2 =>
  Option.bind (cCast Gz [3] x0) fun u7 =>
  Option.bind (cm_J6_grow_2 x0 (v2 + 1) Gz) fun qx7 =>
  some (qx7.1, qx7.2)
def cm_J6_add_2_J11 (x0 : Nat) (x1 : Nat) (x2 : Nat) (x3 : Int32) (G : GH) : Option GH :=
  Option.bind (cAstR G x2 x3 x1) fun G14 =>
  Option.bind (cPutI G14 [3] x0 2 (x3 + 1)) fun G19 =>
  some G19
def cm_J6_add_2 (x0 : Nat) (x1 : Nat) (x2 : Nat) (x3 : Int32) (Gz : GH) : Option GH :=
  Option.bind (cLen Gz x2) fun v2 =>
  if x3 = v2 then
    (Option.bind (cCast Gz [3] x0) fun u7 =>
    Option.bind (cm_J6_grow x0 Gz) fun qx7 =>
    cm_J6_add_2_J11 x0 x1 qx7.1 x3 qx7.2)
  else
    cm_J6_add_2_J11 x0 x1 x2 x3 Gz
def cm_J6_add (x0 : Nat) (x1 : Nat) (Gz : GH) : Option (Int32 × GH) :=
  Option.bind (cGetI Gz [3] x0 0) fun v2 =>
  Option.bind (cPutI Gz [3] x0 0 (v2 + 1)) fun G7 =>
  Option.bind (cGetR G7 [3] x0 1) fun v13 =>
  Option.bind (cGetI G7 [3] x0 2) fun v17 =>
  Option.bind (cCast G7 [3] x0) fun u20 =>
  Option.bind (cm_J6_add_2 x0 x1 v13 v17 G7) fun G20 =>
  mZr 1 (1, G20)
def cm_X29_add_J42 (x0 : Nat) (x1 : Int32) (x2 : Nat) (x3 : Int32) (G : GH) : Option GH :=
  Option.bind (cGetR G [35] x0 2) fun v43 =>
  Option.bind (cAstB G v43 x3 x1.toInt8.toInt32) fun G49 =>
  Option.bind (cGetR G49 [35] x0 1) fun v51 =>
  Option.bind (cCast G49 [3] v51) fun u55 =>
  Option.bind (cm_J6_add v51 x2 G49) fun qx55 =>
  some qx55.2
def cm_X29_add (x0 : Nat) (x1 : Int32) (x2 : Nat) (Gz : GH) : Option GH :=
  Option.bind (cGetR Gz [35] x0 1) fun v1 =>
  Option.bind (cCast Gz [3] v1) fun u4 =>
  Option.bind (cm_J6_size v1 Gz) fun v4 =>
  Option.bind (cGetR Gz [35] x0 2) fun v10 =>
  Option.bind (cLen Gz v10) fun v13 =>
  if v4 = v13 then
    (Option.bind (cNewA Gz 102 (2 * v4)) fun qx20 =>
    Option.bind (cGetR qx20.2 [35] x0 2) fun v25 =>
    Option.bind (cCopy qx20.2 v25 0 qx20.1 0 v4) fun G33 =>
    Option.bind (cPutR G33 [35] x0 2 (some qx20.1)) fun G39 =>
    cm_X29_add_J42 x0 x1 x2 v4 G39)
  else
    cm_X29_add_J42 x0 x1 x2 v4 Gz
def cm_X15_init (x0 : Nat) (Gz : GH) : Option GH :=
  some Gz
def cm_X12_init (x0 : Nat) (x1 : Int32) (x2 : Int32) (Gz : GH) : Option GH :=
  Option.bind (cPutI Gz [19] x0 0 x1) fun G6 =>
  Option.bind (cPutI G6 [19] x0 1 x2) fun G11 =>
  some G11
def cm_X18_init (x0 : Nat) (x1 : Nat) (Gz : GH) : Option GH :=
  Option.bind (cm_X6_init x0 5 Gz) fun G2 =>
  Option.bind (cNew G2 21 1) fun qx6 =>
  Option.bind (cm_X15_init qx6.1 qx6.2) fun G10 =>
  Option.bind (cPutR G10 [25] x0 5 (some qx6.1)) fun G13 =>
  Option.bind (cNew G13 18 5) fun qx17 =>
  Option.bind (cAldI qx17.2 x1 0) fun v23 =>
  Option.bind (cAldI qx17.2 x1 1) fun v26 =>
  Option.bind (cm_X12_init qx17.1 v23 v26 qx17.2) fun G27 =>
  Option.bind (cPutR G27 [25] x0 3 (some qx17.1)) fun G30 =>
  Option.bind (cNew G30 23 2) fun qx34 =>
  Option.bind (cAldI qx34.2 x1 2) fun v40 =>
  Option.bind (cm_X17_init qx34.1 v40 qx34.2) fun G41 =>
  Option.bind (cPutR G41 [25] x0 4 (some qx34.1)) fun G44 =>
  some G44
def cm_X30_init (x0 : Nat) (Gz : GH) : Option GH :=
  some Gz
def cm_X32_init (x0 : Nat) (x1 : Int32) (x2 : Nat) (x3 : Nat) (x4 : Int32) (Gz : GH) : Option GH :=
  Option.bind (cm_X30_init x0 Gz) fun G1 =>
  Option.bind (cPutI G1 [37] x0 0 x1) fun G6 =>
  Option.bind (cPutR G6 [37] x0 1 (some x2)) fun G11 =>
  Option.bind (cPutR G11 [37] x0 2 (some x3)) fun G16 =>
  Option.bind (cPutZ G16 [37] x0 3 x4) fun G22 =>
  some G22
def cm_X19_init (x0 : Nat) (x1 : Nat) (Gz : GH) : Option GH :=
  Option.bind (cm_X6_init x0 6 Gz) fun G3 =>
  Option.bind (cNew G3 21 1) fun qx7 =>
  Option.bind (cm_X15_init qx7.1 qx7.2) fun G11 =>
  Option.bind (cPutR G11 [26] x0 5 (some qx7.1)) fun G14 =>
  Option.bind (cNew G14 16 8) fun qx18 =>
  Option.bind (cAldI qx18.2 x1 0) fun v24 =>
  Option.bind (cm_X10_init qx18.1 v24 qx18.2) fun G25 =>
  Option.bind (cPutR G25 [26] x0 3 (some qx18.1)) fun G28 =>
  Option.bind (cNew G28 23 2) fun qx32 =>
  Option.bind (cAldI qx32.2 x1 1) fun v38 =>
  Option.bind (cm_X17_init qx32.1 v38 qx32.2) fun G39 =>
  Option.bind (cPutR G39 [26] x0 4 (some qx32.1)) fun G42 =>
  some G42
def cm_X28_init (x0 : Nat) (x1 : Int32) (Gz : GH) : Option GH :=
  Option.bind (cm_X23_init x0 Gz) fun G1 =>
  Option.bind (cPutI G1 [34] x0 0 x1) fun G6 =>
  some G6
def cm_X24_init (x0 : Nat) (x1 : Nat) (Gz : GH) : Option GH :=
  Option.bind (cm_X23_init x0 Gz) fun G1 =>
  Option.bind (cPutR G1 [30] x0 0 (some x1)) fun G6 =>
  some G6
def cm_J19_init (x0 : Nat) (Gz : GH) : Option GH :=
  some Gz
def cm_X5_init (x0 : Nat) (x1 : Int64) (x3 : Int32) (x4 : Int32) (Gz : GH) : Option GH :=
  Option.bind (cm_J19_init x0 Gz) fun G1 =>
  Option.bind (cPutJ G1 [13] x0 0 x1) fun G6 =>
  Option.bind (cPutI G6 [13] x0 1 x3) fun G11 =>
  Option.bind (cPutI G11 [13] x0 2 x4) fun G17 =>
  some G17
def cm_X5_number (x0 : Nat) (Gz : GH) : Option Int32 :=
  Option.bind (cGetI Gz [13] x0 2) fun v1 =>
  some v1
def cm_X5_sort (x0 : Nat) (Gz : GH) : Option Int32 :=
  Option.bind (cGetI Gz [13] x0 1) fun v1 =>
  some v1
def cm_X5_word (x0 : Nat) (Gz : GH) : Option Int64 :=
  Option.bind (cGetJ Gz [13] x0 0) fun v1 =>
  some v1
def cm_X25_init (x0 : Nat) (x1 : Int32) (Gz : GH) : Option GH :=
  Option.bind (cm_X23_init x0 Gz) fun G1 =>
  Option.bind (cPutI G1 [31] x0 0 x1) fun G6 =>
  some G6
def cm_X9_init (x0 : Nat) (x1 : Int32) (x2 : Int32) (Gz : GH) : Option GH :=
  Option.bind (cPutI Gz [16] x0 0 x1) fun G6 =>
  Option.bind (cPutI G6 [16] x0 1 x2) fun G11 =>
  some G11
def cm_X14_init (x0 : Nat) (x1 : Nat) (Gz : GH) : Option GH :=
  Option.bind (cm_X6_init x0 3 Gz) fun G2 =>
  Option.bind (cNew G2 21 1) fun qx6 =>
  Option.bind (cm_X15_init qx6.1 qx6.2) fun G10 =>
  Option.bind (cPutR G10 [21] x0 4 (some qx6.1)) fun G13 =>
  Option.bind (cNew G13 15 4) fun qx17 =>
  Option.bind (cAldI qx17.2 x1 0) fun v23 =>
  Option.bind (cAldI qx17.2 x1 1) fun v26 =>
  Option.bind (cm_X9_init qx17.1 v23 v26 qx17.2) fun G27 =>
  Option.bind (cPutR G27 [21] x0 3 (some qx17.1)) fun G30 =>
  some G30
def cm_X3_init (x0 : Nat) (x1 : Nat) (x2 : Int32) (Gz : GH) : Option GH :=
  Option.bind (cNew Gz 2 3) fun qx5 =>
  Option.bind (cm_J6_init qx5.1 qx5.2) fun G9 =>
  Option.bind (cPutR G9 [11] x0 8 (some qx5.1)) fun G12 =>
  Option.bind (cNew G12 2 3) fun qx16 =>
  Option.bind (cm_J6_init qx16.1 qx16.2) fun G20 =>
  Option.bind (cPutR G20 [11] x0 9 (some qx16.1)) fun G23 =>
  Option.bind (cNew G23 2 3) fun qx27 =>
  Option.bind (cm_J6_init_2 qx27.1 12 qx27.2) fun G33 =>
  Option.bind (cPutR G33 [11] x0 10 (some qx27.1)) fun G36 =>
  Option.bind (cNewA G36 100 6) fun qx42 =>
  Option.bind (cPutR qx42.2 [11] x0 11 (some qx42.1)) fun G44 =>
  Option.bind (cPutI G44 [11] x0 14 9999) fun G51 =>
  Option.bind (cPutR G51 [11] x0 0 (some x1)) fun G56 =>
  Option.bind (cPutI G56 [11] x0 1 x2) fun G61 =>
  some G61
def cm_X8_add (x0 : Nat) (x1 : Nat) (Gz : GH) : Option (Int32 × GH) :=
  Option.bind (cGetR Gz [15] x0 0) fun v1 =>
  Option.bind (cCast Gz [3] v1) fun u5 =>
  Option.bind (cm_J6_add v1 x1 Gz) fun qx5 =>
  Option.bind (cGetR qx5.2 [15] x0 0) fun v10 =>
  Option.bind (cCast qx5.2 [3] v10) fun u13 =>
  Option.bind (cm_J6_size v10 qx5.2) fun v13 =>
  some ((v13 - 1), qx5.2)
def cm_X3_act (x0 : Nat) (x1 : Int32) (x2 : Int32) (Gz : GH) : Option (Nat × GH) :=
  Option.bind (cNew Gz 28 6) fun qx0 =>
  Option.bind (cm_X22_init qx0.1 x1 x2 qx0.2) fun G6 =>
  Option.bind (cGetR G6 [11] x0 16) fun v11 =>
  Option.bind (cGetR G6 [14, 18, 20, 21, 23, 25, 26, 27, 28] v11 1) fun v14 =>
  Option.bind (cCast G6 [15] v14) fun u18 =>
  Option.bind (cm_X8_add v14 qx0.1 G6) fun qx18 =>
  some (qx0.1, qx18.2)
def cm_X3_at (x0 : Nat) (x1 : Int32) (Gz : GH) : Option Int32 :=
  Option.bind (cGetI Gz [11] x0 1) fun v2 =>
  if v2 ≤ x1 then
    (some 0)
  else
    Option.bind (cGetR Gz [11] x0 0) fun v9 =>
    Option.bind (cAldB Gz v9 x1) fun v13 =>
    some v13
def cm_X3_isSign (x0 : Nat) (x1 : Int32) (Gz : GH) : Option Int32 :=
  Option.bind (cGetR Gz [11] x0 7) fun v1 =>
  if (some v1 : Option Nat) = (some (cK Gz (10 + 2))) then
    (Option.bind (cGetI Gz [11] x0 5) fun v11 =>
    if v11 = x1 then
      (mZr 1 1)
    else
      mZr 0 0)
  else
    mZr 0 0
def cm_X3_wrong (x0 : Nat) (x1 : Int32) (Gz : GH) : Option (Nat × GH) :=
  Option.bind (cNew Gz 38 8) fun qx0 =>
  Option.bind (cGetI qx0.2 [11] x0 3) fun v6 =>
  Option.bind (cm_X4_init qx0.1 x1 v6 qx0.2) fun G9 =>
  some (qx0.1, G9)
def cm_X3_isLetter (x0 : Int32) (Gz : GH) : Option Int32 :=
  if x0 < 97 then
    (mZr 0 0)
  else
    if 122 < x0 then
      (mZr 0 0)
    else
      mZr 1 1
def cm_X3_isDigit (x0 : Int32) (Gz : GH) : Option Int32 :=
  if x0 < 48 then
    (mZr 0 0)
  else
    if 57 < x0 then
      (mZr 0 0)
    else
      mZr 1 1
def cm_X3_letters_J33 (k5 : Nat → GH → Option GH) (x0 : Nat) (G : GH) : Option GH :=
  Option.bind (cGetJ G [11] x0 6) fun v35 =>
  Option.bind (cGetI G [11] x0 2) fun v43 =>
  Option.bind (cCast G [11] x0) fun u46 =>
  Option.bind (cm_X3_at x0 v43 G) fun v46 =>
  Option.bind (cPutJ G [11] x0 6 ((v35 <<< ((8 : Int32).toInt64 &&& 63)) ||| v46.toInt64)) fun G51 =>
  Option.bind (cGetI G51 [11] x0 2) fun v56 =>
  Option.bind (cPutI G51 [11] x0 2 (v56 + 1)) fun G61 =>
  k5 x0 G61
def cm_X3_letters_J91 (s0 : Nat) (s1 : Nat) (G : GH) : Option GH :=
  Option.bind (cPutR G [11] s0 7 (some s1)) fun G91 =>
  some G91
def cm_X3_letters_B5 (k5 : Nat → GH → Option GH) (x0 : Nat) (G : GH) : Option GH :=
  Option.bind (cGetI G [11] x0 2) fun v7 =>
  Option.bind (cCast G [11] x0) fun u10 =>
  Option.bind (cm_X3_at x0 v7 G) fun v10 =>
  Option.bind (cm_X3_isLetter v10 G) fun v13 =>
  if v13 = 0 then
    (Option.bind (cGetI G [11] x0 2) fun v21 =>
    Option.bind (cCast G [11] x0) fun u24 =>
    Option.bind (cm_X3_at x0 v21 G) fun v24 =>
    Option.bind (cm_X3_isDigit v24 G) fun v27 =>
    if v27 = 0 then
      (Option.bind (cGetI G [11] x0 2) fun v69 =>
      Option.bind (cGetI G [11] x0 3) fun v73 =>
      if (v69 - v73) ≤ 8 then
        (cm_X3_letters_J91 x0 (cK G (10 + 0)) G)
      else
        cm_X3_letters_J91 x0 (cK G (10 + 3)) G)
    else
      cm_X3_letters_J33 k5 x0 G)
  else
    cm_X3_letters_J33 k5 x0 G
def cm_X3_letters_L5 : Nat → Nat → GH → Option GH
  | 0 => fun _ _ => none
  | n + 1 => cm_X3_letters_B5 (cm_X3_letters_L5 n)
def cm_X3_letters (x0 : Nat) (Gz : GH) : Option GH :=
  Option.bind (cPutJ Gz [11] x0 6 0) fun G2 =>
  cm_X3_letters_L5 gF x0 G2
def cm_X3_digits_J98 (s0 : Nat) (s1 : Nat) (G : GH) : Option GH :=
  Option.bind (cPutR G [11] s0 7 (some s1)) fun G98 =>
  some G98
def cm_X3_digits_J59 (k5 : Nat → GH → Option GH) (x0 : Nat) (s0 : Nat) (s1 : Int32) (G : GH) : Option GH :=
  Option.bind (cPutI G [11] s0 4 s1) fun G59 =>
  Option.bind (cGetI G59 [11] x0 2) fun v64 =>
  Option.bind (cPutI G59 [11] x0 2 (v64 + 1)) fun G69 =>
  k5 x0 G69
def cm_X3_digits_B5 (k5 : Nat → GH → Option GH) (x0 : Nat) (G : GH) : Option GH :=
  Option.bind (cGetI G [11] x0 2) fun v7 =>
  Option.bind (cCast G [11] x0) fun u10 =>
  Option.bind (cm_X3_at x0 v7 G) fun v10 =>
  Option.bind (cm_X3_isDigit v10 G) fun v13 =>
  if v13 = 0 then
    (Option.bind (cGetI G [11] x0 2) fun v77 =>
    Option.bind (cGetI G [11] x0 3) fun v81 =>
    if (v77 - v81) ≤ 4 then
      (cm_X3_digits_J98 x0 (cK G (10 + 1)) G)
    else
      cm_X3_digits_J98 x0 (cK G (10 + 3)) G)
  else
    Option.bind (cGetI G [11] x0 2) fun v21 =>
    Option.bind (cGetI G [11] x0 3) fun v25 =>
    if 4 ≤ (v21 - v25) then
      (Option.bind (cGetI G [11] x0 4) fun v56 =>
      cm_X3_digits_J59 k5 x0 x0 v56 G)
    else
      Option.bind (cGetI G [11] x0 4) fun v36 =>
      Option.bind (cGetI G [11] x0 2) fun v42 =>
      Option.bind (cCast G [11] x0) fun u45 =>
      Option.bind (cm_X3_at x0 v42 G) fun v45 =>
      cm_X3_digits_J59 k5 x0 x0 (((10 * v36) + v45) - 48) G
def cm_X3_digits_L5 : Nat → Nat → GH → Option GH
  | 0 => fun _ _ => none
  | n + 1 => cm_X3_digits_B5 (cm_X3_digits_L5 n)
def cm_X3_digits (x0 : Nat) (Gz : GH) : Option GH :=
  Option.bind (cPutI Gz [11] x0 4 0) fun G2 =>
  cm_X3_digits_L5 gF x0 G2
def cm_J15_canEncode (x0 : Int32) (Gz : GH) : Option Int32 :=
  if x0 < 0 then
    (mZr 0 0)
  else
    if 255 < x0 then
      (mZr 0 0)
    else
      mZr 1 1
def cm_J15_indexOfChar_B7 (k7 : Nat → Int32 → Int32 → Int32 → GH → Option Int32) (x0 : Nat) (x3 : Int32) (x4 : Int32) (x5 : Int32) (Gz : GH) : Option Int32 :=
  if x3 ≤ x5 then
    (some (-1))
  else
    Option.bind (cAldB Gz x0 x5) fun v16 =>
    if v16 = x4 then
      (some x5)
    else
      k7 x0 x3 x4 (x5 + 1) Gz
def cm_J15_indexOfChar_L7 : Nat → Nat → Int32 → Int32 → Int32 → GH → Option Int32
  | 0 => fun _ _ _ _ _ => none
  | n + 1 => cm_J15_indexOfChar_B7 (cm_J15_indexOfChar_L7 n)
def cm_J15_indexOfChar (x0 : Nat) (x1 : Int32) (x2 : Int32) (x3 : Int32) (Gz : GH) : Option Int32 :=
  cm_J15_indexOfChar_L7 gF x0 x3 x1.toInt8.toInt32 x2 Gz
def cm_J15_indexOf (x0 : Nat) (x1 : Int32) (x2 : Int32) (x3 : Int32) (Gz : GH) : Option Int32 :=
  Option.bind (cm_J15_canEncode x1 Gz) fun v1 =>
  if v1 = 0 then
    (some (-1))
  else
    Option.bind (cLen Gz x0) fun v17 =>
    if (if x2 < 0 then 0 else x2) < (if v17 < x3 then v17 else x3) then
      (Option.bind (cm_J15_indexOfChar x0 x1 (if x2 < 0 then 0 else x2) (if v17 < x3 then v17 else x3) Gz) fun v33 =>
      some v33)
    else
      some (-1)
def cm_J9_indexOf_2 (x0 : Nat) (x1 : Int32) (x2 : Int32) (Gz : GH) : Option Int32 :=
  Option.bind (cCast Gz [5] x0) fun u1 =>
  Option.bind (cm_J9_isLatin1 x0 Gz) fun v1 =>
  if v1 = 0 then
    (Option.bind (cGetR Gz [5] x0 0) fun v24 =>
    Option.bind (cCast Gz [5] x0) fun u30 =>
    Option.bind (cm_J9_length x0 Gz) fun v30 =>
    none)
  else
    Option.bind (cGetR Gz [5] x0 0) fun v8 =>
    Option.bind (cCast Gz [5] x0) fun u14 =>
    Option.bind (cm_J9_length x0 Gz) fun v14 =>
    Option.bind (cm_J15_indexOf v8 x1 x2 v14 Gz) fun v17 =>
    some v17
def cm_J9_indexOf (x0 : Nat) (x1 : Int32) (Gz : GH) : Option Int32 :=
  Option.bind (cCast Gz [5] x0) fun u3 =>
  Option.bind (cm_J9_indexOf_2 x0 x1 0 Gz) fun v3 =>
  some v3
def cm_X3_signs_J142 (x0 : Nat) (G : GH) : Option GH :=
  Option.bind (cPutR G [11] x0 7 (some (cK G (10 + 3)))) fun G146 =>
  some G146
def cm_X3_signs_J127 (x0 : Nat) (x1 : Int32) (G : GH) : Option GH :=
  if x1 = 33 then
    (cm_X3_signs_J142 x0 G)
  else
    Option.bind (cCast G [5] (cK G (100 + 58))) fun u136 =>
    Option.bind (cm_J9_indexOf (cK G (100 + 58)) x1 G) fun v136 =>
    if 0 ≤ v136 then
      (some G)
    else
      cm_X3_signs_J142 x0 G
def cm_X3_signs_J111 (x0 : Nat) (s0 : Nat) (s1 : Int32) (G : GH) : Option GH :=
  Option.bind (cPutI G [11] s0 5 s1) fun G111 =>
  Option.bind (cGetI G111 [11] x0 2) fun v116 =>
  Option.bind (cPutI G111 [11] x0 2 (v116 + 1)) fun G121 =>
  some G121
def cm_X3_signs_J71 (x0 : Nat) (x1 : Int32) (G : GH) : Option GH :=
  if x1 = 60 then
    (cm_X3_signs_J111 x0 x0 256 G)
  else
    if x1 = 62 then
      (cm_X3_signs_J111 x0 x0 257 G)
    else
      if x1 = 61 then
        (cm_X3_signs_J111 x0 x0 258 G)
      else
        cm_X3_signs_J111 x0 x0 259 G
def cm_X3_signs_J20 (x0 : Nat) (x1 : Int32) (s0 : Int32) (G : GH) : Option GH :=
  Option.bind (cPutR G [11] x0 7 (some (cK G (10 + 2)))) fun G25 =>
  Option.bind (cPutI G25 [11] x0 5 x1) fun G30 =>
  Option.bind (cGetI G30 [11] x0 2) fun v35 =>
  Option.bind (cPutI G30 [11] x0 2 (v35 + 1)) fun G40 =>
  if s0 = 0 then
    (cm_X3_signs_J127 x0 x1 G40)
  else
    if x1 = 60 then
      (cm_X3_signs_J71 x0 x1 G40)
    else
      if x1 = 62 then
        (cm_X3_signs_J71 x0 x1 G40)
      else
        if x1 = 61 then
          (cm_X3_signs_J71 x0 x1 G40)
        else
          if x1 = 33 then
            (cm_X3_signs_J71 x0 x1 G40)
          else
            cm_X3_signs_J127 x0 x1 G40
def cm_X3_signs (x0 : Nat) (x1 : Int32) (Gz : GH) : Option GH :=
  Option.bind (cGetI Gz [11] x0 2) fun v2 =>
  Option.bind (cCast Gz [11] x0) fun u7 =>
  Option.bind (cm_X3_at x0 (v2 + 1) Gz) fun v7 =>
  if v7 = 61 then
    (cm_X3_signs_J20 x0 x1 1 Gz)
  else
    cm_X3_signs_J20 x0 x1 0 Gz
def cm_X3_go_J52 (x0 : Nat) (G : GH) : Option GH :=
  Option.bind (cGetI G [11] x0 2) fun v54 =>
  Option.bind (cPutI G [11] x0 3 v54) fun G57 =>
  Option.bind (cGetI G57 [11] x0 2) fun v62 =>
  Option.bind (cCast G57 [11] x0) fun u65 =>
  Option.bind (cm_X3_at x0 v62 G57) fun v65 =>
  Option.bind (cGetI G57 [11] x0 2) fun v70 =>
  Option.bind (cGetI G57 [11] x0 1) fun v74 =>
  if v70 < v74 then
    (Option.bind (cm_X3_isLetter v65 G57) fun v91 =>
    if v91 = 0 then
      (Option.bind (cm_X3_isDigit v65 G57) fun v105 =>
      if v105 = 0 then
        (Option.bind (cCast G57 [11] x0) fun u120 =>
        Option.bind (cm_X3_signs x0 v65 G57) fun G120 =>
        some G120)
      else
        Option.bind (cCast G57 [11] x0) fun u112 =>
        Option.bind (cm_X3_digits x0 G57) fun G112 =>
        some G112)
    else
      Option.bind (cCast G57 [11] x0) fun u98 =>
      Option.bind (cm_X3_letters x0 G57) fun G98 =>
      some G98)
  else
    Option.bind (cPutR G57 [11] x0 7 (some (cK G57 (10 + 4)))) fun G84 =>
    some G84
def cm_X3_go_J39 (k0 : Nat → GH → Option GH) (x0 : Nat) (G : GH) : Option GH :=
  Option.bind (cGetI G [11] x0 2) fun v41 =>
  Option.bind (cPutI G [11] x0 2 (v41 + 1)) fun G46 =>
  k0 x0 G46
def cm_X3_go_B0 (k0 : Nat → GH → Option GH) (x0 : Nat) (G : GH) : Option GH :=
  Option.bind (cGetI G [11] x0 2) fun v1 =>
  Option.bind (cGetI G [11] x0 1) fun v5 =>
  if v5 ≤ v1 then
    (cm_X3_go_J52 x0 G)
  else
    Option.bind (cGetR G [11] x0 0) fun v12 =>
    Option.bind (cGetI G [11] x0 2) fun v16 =>
    Option.bind (cAldB G v12 v16) fun v19 =>
    if v19 = 32 then
      (cm_X3_go_J39 k0 x0 G)
    else
      Option.bind (cGetR G [11] x0 0) fun v26 =>
      Option.bind (cGetI G [11] x0 2) fun v30 =>
      Option.bind (cAldB G v26 v30) fun v33 =>
      if v33 = 10 then
        (cm_X3_go_J39 k0 x0 G)
      else
        cm_X3_go_J52 x0 G
def cm_X3_go_L0 : Nat → Nat → GH → Option GH
  | 0 => fun _ _ => none
  | n + 1 => cm_X3_go_B0 (cm_X3_go_L0 n)
def cm_X3_go (x0 : Nat) (Gz : GH) : Option GH :=
  cm_X3_go_L0 gF x0 Gz
def cm_X3_needWord (x0 : Nat) (Gz : GH) : Option (GX Unit) :=
  Option.bind (cGetR Gz [11] x0 7) fun v1 =>
  if (some v1 : Option Nat) = (some (cK Gz (10 + 0))) then
    (some (.inl ((), Gz)))
  else
    Option.bind (cCast Gz [11] x0) fun u12 =>
    Option.bind (cm_X3_wrong x0 1 Gz) fun qx12 =>
    cThrowW qx12.2 qx12.1
def cm_X3_registerOf (x0 : Int64) (Gz : GH) : Option (Int32 × GH) :=
  Option.bind (cm_X1_among (cK Gz (100 + 64)) x0 Gz) fun qx4 =>
  if (qx4.1 - 13) < 0 then
    (some ((-1), qx4.2))
  else
    some ((qx4.1 - 13), qx4.2)
def cm_X3_canDo (x0 : Nat) (x1 : Int32) (Gz : GH) : Option Int32 :=
  if x1 = 0 then
    (Option.bind (cGetR Gz [11] x0 16) fun v41 =>
    Option.bind (cInst Gz [14, 20, 21, 27, 28] [18, 23, 25, 26] v41) fun v44 =>
    if v44 = 0 then
      (mZr 0 0)
    else
      Option.bind (cGetR Gz [11] x0 16) fun v51 =>
      Option.bind (cInst Gz [28] [14, 18, 20, 21, 23, 25, 26, 27] v51) fun v54 =>
      if v54 = 0 then
        (mZr 1 1)
      else
        mZr 0 0)
  else
  if x1 = 1 then
    (Option.bind (cGetR Gz [11] x0 16) fun v67 =>
    Option.bind (cInst Gz [18, 20, 25, 27] [14, 21, 23, 26, 28] v67) fun v70 =>
    mZr v70 v70)
  else
  if x1 = 2 then
    (Option.bind (cGetR Gz [11] x0 16) fun v75 =>
    Option.bind (cInst Gz [23, 25, 26, 27] [14, 18, 20, 21, 28] v75) fun v78 =>
    mZr v78 v78)
  else
  if x1 = 3 then
    (Option.bind (cGetR Gz [11] x0 16) fun v83 =>
    Option.bind (cInst Gz [21, 25, 26, 27] [14, 18, 20, 23, 28] v83) fun v86 =>
    mZr v86 v86)
  else
  if x1 = 4 then
    (Option.bind (cGetR Gz [11] x0 16) fun v91 =>
    Option.bind (cInst Gz [14, 18, 20, 26, 27, 28] [21, 23, 25] v91) fun v94 =>
    mZr v94 v94)
  else
  if x1 = 5 then
    (Option.bind (cGetR Gz [11] x0 16) fun v91 =>
    Option.bind (cInst Gz [14, 18, 20, 26, 27, 28] [21, 23, 25] v91) fun v94 =>
    mZr v94 v94)
  else
    mZr 1 1
def cm_X3_need (x0 : Nat) (x1 : Int32) (Gz : GH) : Option (GX Unit) :=
  Option.bind (cCast Gz [11] x0) fun u2 =>
  Option.bind (cm_X3_isSign x0 x1 Gz) fun v2 =>
  if v2 = 0 then
    (Option.bind (cCast Gz [11] x0) fun u10 =>
    Option.bind (cm_X3_wrong x0 1 Gz) fun qx10 =>
    cThrowW qx10.2 qx10.1)
  else
    Option.bind (cCast Gz [11] x0) fun u15 =>
    Option.bind (cm_X3_go x0 Gz) fun G15 =>
    some (.inl ((), G15))
def cm_X26_init (x0 : Nat) (x1 : Int32) (x2 : Int64) (x4 : Int32) (Gz : GH) : Option GH :=
  Option.bind (cm_X23_init x0 Gz) fun G1 =>
  Option.bind (cPutI G1 [32] x0 0 x1) fun G6 =>
  Option.bind (cPutJ G6 [32] x0 2 x2) fun G11 =>
  Option.bind (cPutI G11 [32] x0 1 x4) fun G17 =>
  some G17
def cm_X27_init (x0 : Nat) (x1 : Int32) (Gz : GH) : Option GH :=
  Option.bind (cm_X23_init x0 Gz) fun G1 =>
  Option.bind (cPutI G1 [33] x0 0 x1) fun G6 =>
  some G6
def cm_X3_named_B2 (k2 : Nat → Int64 → Int32 → GH → Option (Option Nat)) (x0 : Nat) (x1 : Int64) (x3 : Int32) (Gz : GH) : Option (Option Nat) :=
  Option.bind (cGetR Gz [11] x0 8) fun v4 =>
  Option.bind (cCast Gz [3] v4) fun u7 =>
  Option.bind (cm_J6_size v4 Gz) fun v7 =>
  if v7 ≤ x3 then
    (some none)
  else
    Option.bind (cGetR Gz [11] x0 8) fun v14 =>
    Option.bind (cCast Gz [3] v14) fun u18 =>
    Option.bind (cm_J6_get v14 x3 Gz) fun v18 =>
    Option.bind v18 fun b21 =>
    Option.bind (cCast Gz [13] b21) fun u21 =>
    Option.bind (cCast Gz [13] b21) fun u24 =>
    Option.bind (cm_X5_word b21 Gz) fun v24 =>
    if (lg_cmp v24 x1) = 0 then
      (Option.bind (cGetR Gz [11] x0 8) fun v33 =>
      Option.bind (cCast Gz [3] v33) fun u37 =>
      Option.bind (cm_J6_get v33 x3 Gz) fun v37 =>
      Option.bind v37 fun b40 =>
      Option.bind (cCast Gz [13] b40) fun u40 =>
      some (some b40))
    else
      k2 x0 x1 (x3 + 1) Gz
def cm_X3_named_L2 : Nat → Nat → Int64 → Int32 → GH → Option (Option Nat)
  | 0 => fun _ _ _ _ => none
  | n + 1 => cm_X3_named_B2 (cm_X3_named_L2 n)
def cm_X3_named (x0 : Nat) (x1 : Int64) (Gz : GH) : Option (Option Nat) :=
  cm_X3_named_L2 gF x0 x1 0 Gz
def cm_X3_told_J91 (x0 : Nat) (x3 : Int32) (x4 : Int32) (x5 : Int32) (x6 : Int32) (G : GH) : Option (GX Nat) :=
  Option.bind (cCast G [11] x0) fun u92 =>
  Option.bind (cm_X3_go x0 G) fun G92 =>
  if x4 = (-1) then
    (if x5 = (-1) then
      (Option.bind (cNew G92 33 1) fun qx133 =>
      Option.bind (cm_X28_init qx133.1 x6 qx133.2) fun G139 =>
      some (.inl (qx133.1, G139)))
    else
      Option.bind (cNew G92 32 1) fun qx121 =>
      Option.bind (cm_X27_init qx121.1 x5 qx121.2) fun G127 =>
      some (.inl (qx121.1, G127)))
  else
    Option.bind (cNew G92 31 4) fun qx101 =>
    Option.bind (cm_X26_init qx101.1 x4 0 x3 qx101.2) fun G109 =>
    some (.inl (qx101.1, G109))
def cm_X3_told_J217 (x0 : Nat) (x1 : Int64) (x3 : Int32) (s0 : Int32) (G : GH) : Option (GX Nat) :=
  if s0 = (-1) then
    (Option.bind (cCast G [11] x0) fun u227 =>
    Option.bind (cm_X3_wrong x0 1 G) fun qx227 =>
    cThrowW qx227.2 qx227.1)
  else
    Option.bind (cCast G [11] x0) fun u232 =>
    Option.bind (cm_X3_go x0 G) fun G232 =>
    Option.bind (cNew G232 31 4) fun qx235 =>
    Option.bind (cm_X26_init qx235.1 s0 x1 x3 qx235.2) fun G243 =>
    Option.bind (cGetR G243 [11] x0 9) fun v249 =>
    Option.bind (cCast G243 [3] v249) fun u254 =>
    Option.bind (cm_J6_add v249 qx235.1 G243) fun qx254 =>
    some (.inl (qx235.1, qx254.2))
def cm_X3_told_J183 (x0 : Nat) (x1 : Int64) (x3 : Int32) (G : GH) : Option (GX Nat) :=
  Option.bind (cCast G [11] x0) fun u184 =>
  Option.bind (cm_X3_go x0 G) fun G184 =>
  Option.bind (cCast G184 [11] x0) fun u190 =>
  gXb (cm_X3_need x0 46 G184) fun qx190 =>
  Option.bind (cGetR qx190.2 [11] x0 7) fun v194 =>
  if (some v194 : Option Nat) = (some (cK qx190.2 (10 + 0))) then
    (Option.bind (cGetJ qx190.2 [11] x0 6) fun v207 =>
    Option.bind (cm_X1_among (cK qx190.2 (100 + 66)) v207 qx190.2) fun qx210 =>
    cm_X3_told_J217 x0 x1 x3 qx210.1 qx210.2)
  else
    cm_X3_told_J217 x0 x1 x3 (-1) qx190.2
def cm_X3_told_J71 (x0 : Nat) (x1 : Int64) (x3 : Int32) (x4 : Int32) (x5 : Int32) (s0 : Int32) (G : GH) : Option (GX Nat) :=
  if x4 = (-1) then
    (if x5 = (-1) then
      (if s0 = (-1) then
        (Option.bind (cm_X1_isReserved x1 G) fun qx144 =>
        if qx144.1 = 0 then
          (Option.bind (cCast qx144.2 [11] x0) fun u158 =>
          Option.bind (cm_X3_named x0 x1 qx144.2) fun v158 =>
          if v158 = none then
            (cm_X3_told_J183 x0 x1 x3 qx144.2)
          else
            Option.bind v158 fun b170 =>
            Option.bind (cCast qx144.2 [13] b170) fun u170 =>
            Option.bind (cm_X5_sort b170 qx144.2) fun v170 =>
            if v170 = 2 then
              (cm_X3_told_J183 x0 x1 x3 qx144.2)
            else
              Option.bind (cCast qx144.2 [11] x0) fun u179 =>
              Option.bind (cm_X3_wrong x0 3 qx144.2) fun qx179 =>
              cThrowW qx179.2 qx179.1)
        else
          Option.bind (cCast qx144.2 [11] x0) fun u152 =>
          Option.bind (cm_X3_wrong x0 1 qx144.2) fun qx152 =>
          cThrowW qx152.2 qx152.1)
      else
        cm_X3_told_J91 x0 x3 x4 x5 s0 G)
    else
      cm_X3_told_J91 x0 x3 x4 x5 s0 G)
  else
    cm_X3_told_J91 x0 x3 x4 x5 s0 G
def cm_X3_told (x0 : Nat) (Gz : GH) : Option (GX Nat) :=
  Option.bind (cGetJ Gz [11] x0 6) fun v1 =>
  Option.bind (cGetI Gz [11] x0 3) fun v6 =>
  Option.bind (cm_X1_among (cK Gz (100 + 66)) v1 Gz) fun qx14 =>
  Option.bind (cm_X3_registerOf v1 qx14.2) fun qx20 =>
  Option.bind (cm_X1_word (cK qx20.2 (100 + 67)) qx20.2) fun qx29 =>
  if (lg_cmp v1 qx29.1) = 0 then
    (cm_X3_told_J71 x0 v1 v6 qx14.1 qx20.1 0 qx29.2)
  else
    Option.bind (cm_X1_word (cK qx29.2 (100 + 68)) qx29.2) fun qx44 =>
    if (lg_cmp v1 qx44.1) = 0 then
      (cm_X3_told_J71 x0 v1 v6 qx14.1 qx20.1 1 qx44.2)
    else
      Option.bind (cm_X1_word (cK qx44.2 (100 + 69)) qx44.2) fun qx59 =>
      if (lg_cmp v1 qx59.1) = 0 then
        (cm_X3_told_J71 x0 v1 v6 qx14.1 qx20.1 2 qx59.2)
      else
        cm_X3_told_J71 x0 v1 v6 qx14.1 qx20.1 (-1) qx59.2
def cm_X3_sum_J38 (rc : (Nat → GH → Option (GX Nat)) × (Nat → GH → Option (GX Nat)) × (Nat → GH → Option (GX Nat))) (k7 : Nat → Nat → Option Nat → GH → Option (GX Nat)) (x0 : Nat) (x1 : Nat) (x2 : Option Nat) (G : GH) : Option (GX Nat) :=
  Option.bind (cGetI G [11] x0 5) fun v39 =>
  Option.bind (cCast G [11] x0) fun u44 =>
  Option.bind (cm_X3_go x0 G) fun G44 =>
  Option.bind (cCast G44 [11] x0) fun u50 =>
  gXb (rc.2.1 x0 G44) fun qx50 =>
  Option.bind x2 fun b53 =>
  Option.bind (cCast qx50.2 [35] b53) fun u53 =>
  Option.bind (cm_X29_add b53 v39 qx50.1 qx50.2) fun G53 =>
  k7 x0 x1 (some b53) G53
def cm_X3_sum_J25 (rc : (Nat → GH → Option (GX Nat)) × (Nat → GH → Option (GX Nat)) × (Nat → GH → Option (GX Nat))) (k7 : Nat → Nat → Option Nat → GH → Option (GX Nat)) (x0 : Nat) (x1 : Nat) (x2 : Option Nat) (G : GH) : Option (GX Nat) :=
  if x2 = none then
    (Option.bind (cNew G 34 3) fun qx29 =>
    Option.bind (cm_X29_init qx29.1 x1 qx29.2) fun G34 =>
    cm_X3_sum_J38 rc k7 x0 x1 (some qx29.1) G34)
  else
    cm_X3_sum_J38 rc k7 x0 x1 x2 G
def cm_X3_sum_B7 (rc : (Nat → GH → Option (GX Nat)) × (Nat → GH → Option (GX Nat)) × (Nat → GH → Option (GX Nat))) (k7 : Nat → Nat → Option Nat → GH → Option (GX Nat)) (x0 : Nat) (x1 : Nat) (x2 : Option Nat) (G : GH) : Option (GX Nat) :=
  Option.bind (cCast G [11] x0) fun u10 =>
  Option.bind (cm_X3_isSign x0 43 G) fun v10 =>
  if v10 = 0 then
    (Option.bind (cCast G [11] x0) fun u19 =>
    Option.bind (cm_X3_isSign x0 45 G) fun v19 =>
    if v19 = 0 then
      (if x2 = none then
        (some (.inl (x1, G)))
      else
        Option.bind x2 fun b68 =>
        some (.inl (b68, G)))
    else
      cm_X3_sum_J25 rc k7 x0 x1 x2 G)
  else
    cm_X3_sum_J25 rc k7 x0 x1 x2 G
def cm_X3_sum_L7 (rc : (Nat → GH → Option (GX Nat)) × (Nat → GH → Option (GX Nat)) × (Nat → GH → Option (GX Nat))) : Nat → Nat → Nat → Option Nat → GH → Option (GX Nat)
  | 0 => fun _ _ _ _ => none
  | n + 1 => cm_X3_sum_B7 rc (cm_X3_sum_L7 rc n)
def cm_X3_sum_B (rc : (Nat → GH → Option (GX Nat)) × (Nat → GH → Option (GX Nat)) × (Nat → GH → Option (GX Nat))) (x0 : Nat) (Gz : GH) : Option (GX Nat) :=
  Option.bind (cCast Gz [11] x0) fun u1 =>
  gXb (rc.2.1 x0 Gz) fun qx1 =>
  cm_X3_sum_L7 rc gF x0 qx1.1 none qx1.2
def cm_X3_product_J38 (rc : (Nat → GH → Option (GX Nat)) × (Nat → GH → Option (GX Nat)) × (Nat → GH → Option (GX Nat))) (k7 : Nat → Nat → Option Nat → GH → Option (GX Nat)) (x0 : Nat) (x1 : Nat) (x2 : Option Nat) (G : GH) : Option (GX Nat) :=
  Option.bind (cGetI G [11] x0 5) fun v39 =>
  Option.bind (cCast G [11] x0) fun u44 =>
  Option.bind (cm_X3_go x0 G) fun G44 =>
  Option.bind (cCast G44 [11] x0) fun u50 =>
  gXb (rc.2.2 x0 G44) fun qx50 =>
  Option.bind x2 fun b53 =>
  Option.bind (cCast qx50.2 [35] b53) fun u53 =>
  Option.bind (cm_X29_add b53 v39 qx50.1 qx50.2) fun G53 =>
  k7 x0 x1 (some b53) G53
def cm_X3_product_J25 (rc : (Nat → GH → Option (GX Nat)) × (Nat → GH → Option (GX Nat)) × (Nat → GH → Option (GX Nat))) (k7 : Nat → Nat → Option Nat → GH → Option (GX Nat)) (x0 : Nat) (x1 : Nat) (x2 : Option Nat) (G : GH) : Option (GX Nat) :=
  if x2 = none then
    (Option.bind (cNew G 34 3) fun qx29 =>
    Option.bind (cm_X29_init qx29.1 x1 qx29.2) fun G34 =>
    cm_X3_product_J38 rc k7 x0 x1 (some qx29.1) G34)
  else
    cm_X3_product_J38 rc k7 x0 x1 x2 G
def cm_X3_product_B7 (rc : (Nat → GH → Option (GX Nat)) × (Nat → GH → Option (GX Nat)) × (Nat → GH → Option (GX Nat))) (k7 : Nat → Nat → Option Nat → GH → Option (GX Nat)) (x0 : Nat) (x1 : Nat) (x2 : Option Nat) (G : GH) : Option (GX Nat) :=
  Option.bind (cCast G [11] x0) fun u10 =>
  Option.bind (cm_X3_isSign x0 42 G) fun v10 =>
  if v10 = 0 then
    (Option.bind (cCast G [11] x0) fun u19 =>
    Option.bind (cm_X3_isSign x0 47 G) fun v19 =>
    if v19 = 0 then
      (if x2 = none then
        (some (.inl (x1, G)))
      else
        Option.bind x2 fun b68 =>
        some (.inl (b68, G)))
    else
      cm_X3_product_J25 rc k7 x0 x1 x2 G)
  else
    cm_X3_product_J25 rc k7 x0 x1 x2 G
def cm_X3_product_L7 (rc : (Nat → GH → Option (GX Nat)) × (Nat → GH → Option (GX Nat)) × (Nat → GH → Option (GX Nat))) : Nat → Nat → Nat → Option Nat → GH → Option (GX Nat)
  | 0 => fun _ _ _ _ => none
  | n + 1 => cm_X3_product_B7 rc (cm_X3_product_L7 rc n)
def cm_X3_product_B (rc : (Nat → GH → Option (GX Nat)) × (Nat → GH → Option (GX Nat)) × (Nat → GH → Option (GX Nat))) (x0 : Nat) (Gz : GH) : Option (GX Nat) :=
  Option.bind (cCast Gz [11] x0) fun u1 =>
  gXb (rc.2.2 x0 Gz) fun qx1 =>
  cm_X3_product_L7 rc gF x0 qx1.1 none qx1.2
def cm_X3_factor_J95 (rc : (Nat → GH → Option (GX Nat)) × (Nat → GH → Option (GX Nat)) × (Nat → GH → Option (GX Nat))) (x0 : Nat) (x2 : Nat) (G : GH) : Option (GX Nat) :=
  Option.bind (cGetI G [11] x0 20) fun v97 =>
  Option.bind (cPutI G [11] x0 20 (v97 - 1)) fun G102 =>
  some (.inl (x2, G102))
def cm_X3_factor_J84 (rc : (Nat → GH → Option (GX Nat)) × (Nat → GH → Option (GX Nat)) × (Nat → GH → Option (GX Nat))) (x0 : Nat) (x1 : Int32) (s0 : Nat) (G : GH) : Option (GX Nat) :=
  if x1 = 0 then
    (Option.bind (cCast G [11] x0) fun u92 =>
    gXb (cm_X3_need x0 41 G) fun qx92 =>
    cm_X3_factor_J95 rc x0 s0 qx92.2)
  else
    cm_X3_factor_J95 rc x0 s0 G
def cm_X3_factor_J32 (rc : (Nat → GH → Option (GX Nat)) × (Nat → GH → Option (GX Nat)) × (Nat → GH → Option (GX Nat))) (x0 : Nat) (s0 : Int32) (G : GH) : Option (GX Nat) :=
  Option.bind (cGetI G [11] x0 20) fun v34 =>
  if v34 = 12 then
    (Option.bind (cCast G [11] x0) fun u44 =>
    Option.bind (cm_X3_wrong x0 4 G) fun qx44 =>
    cThrowW qx44.2 qx44.1)
  else
    Option.bind (cGetI G [11] x0 20) fun v50 =>
    Option.bind (cPutI G [11] x0 20 (v50 + 1)) fun G55 =>
    Option.bind (cCast G55 [11] x0) fun u59 =>
    Option.bind (cm_X3_go x0 G55) fun G59 =>
    if s0 = 0 then
      (Option.bind (cCast G59 [11] x0) fun u81 =>
      gXb (rc.1 x0 G59) fun qx81 =>
      cm_X3_factor_J84 rc x0 s0 qx81.1 qx81.2)
    else
      Option.bind (cNew G59 29 1) fun qx66 =>
      Option.bind (cCast qx66.2 [11] x0) fun u71 =>
      gXb (rc.2.2 x0 qx66.2) fun qx71 =>
      Option.bind (cm_X24_init qx66.1 qx71.1 qx71.2) fun G74 =>
      cm_X3_factor_J84 rc x0 s0 qx66.1 G74
def cm_X3_factor_J18 (rc : (Nat → GH → Option (GX Nat)) × (Nat → GH → Option (GX Nat)) × (Nat → GH → Option (GX Nat))) (x0 : Nat) (G : GH) : Option (GX Nat) :=
  Option.bind (cGetI G [11] x0 5) fun v19 =>
  if v19 = 45 then
    (cm_X3_factor_J32 rc x0 1 G)
  else
    cm_X3_factor_J32 rc x0 0 G
def cm_X3_factor_B (rc : (Nat → GH → Option (GX Nat)) × (Nat → GH → Option (GX Nat)) × (Nat → GH → Option (GX Nat))) (x0 : Nat) (Gz : GH) : Option (GX Nat) :=
  Option.bind (cCast Gz [11] x0) fun u3 =>
  Option.bind (cm_X3_isSign x0 45 Gz) fun v3 =>
  if v3 = 0 then
    (Option.bind (cCast Gz [11] x0) fun u12 =>
    Option.bind (cm_X3_isSign x0 40 Gz) fun v12 =>
    if v12 = 0 then
      (Option.bind (cGetR Gz [11] x0 7) fun v108 =>
      if (some v108 : Option Nat) = (some (cK Gz (10 + 1))) then
        (Option.bind (cNew Gz 30 1) fun qx117 =>
        Option.bind (cGetI qx117.2 [11] x0 4) fun v122 =>
        Option.bind (cm_X25_init qx117.1 v122 qx117.2) fun G125 =>
        Option.bind (cCast G125 [11] x0) fun u130 =>
        Option.bind (cm_X3_go x0 G125) fun G130 =>
        some (.inl (qx117.1, G130)))
      else
        Option.bind (cCast Gz [11] x0) fun u136 =>
        gXb (cm_X3_needWord x0 Gz) fun qx136 =>
        Option.bind (cCast qx136.2 [11] x0) fun u140 =>
        gXb (cm_X3_told x0 qx136.2) fun qx140 =>
        some (.inl (qx140.1, qx140.2)))
    else
      cm_X3_factor_J18 rc x0 Gz)
  else
    cm_X3_factor_J18 rc x0 Gz
def cm_S221 : Nat → (Nat → GH → Option (GX Nat)) × (Nat → GH → Option (GX Nat)) × (Nat → GH → Option (GX Nat))
  | 0 => (fun _ _ => none, fun _ _ => none, fun _ _ => none)
  | d + 1 => (cm_X3_sum_B (cm_S221 d), cm_X3_product_B (cm_S221 d), cm_X3_factor_B (cm_S221 d))
def cm_X3_sum (d : Nat) : Nat → GH → Option (GX Nat) := (cm_S221 d).1
def cm_X3_product (d : Nat) : Nat → GH → Option (GX Nat) := (cm_S221 d).2.1
def cm_X3_factor (d : Nat) : Nat → GH → Option (GX Nat) := (cm_S221 d).2.2
def cm_X3_whole (x0 : Nat) (Gz : GH) : Option (GX Nat) :=
  Option.bind (cGetI Gz [11] x0 20) fun v1 =>
  Option.bind (cPutI Gz [11] x0 20 0) fun G7 =>
  Option.bind (cCast G7 [11] x0) fun u11 =>
  gXb (cm_X3_sum 60 x0 G7) fun qx11 =>
  Option.bind (cPutI qx11.2 [11] x0 20 v1) fun G17 =>
  some (.inl (qx11.1, G17))
def cm_X3_isWord (x0 : Nat) (x1 : Nat) (Gz : GH) : Option (Int32 × GH) :=
  Option.bind (cGetR Gz [11] x0 7) fun v1 =>
  if (some v1 : Option Nat) = (some (cK Gz (10 + 0))) then
    (Option.bind (cGetJ Gz [11] x0 6) fun v11 =>
    Option.bind (cm_X1_word x1 Gz) fun qx15 =>
    if (lg_cmp v11 qx15.1) = 0 then
      (mZr 1 (1, qx15.2))
    else
      mZr 0 (0, qx15.2))
  else
    mZr 0 (0, Gz)
def cm_X3_takes (x0 : Nat) (x1 : Nat) (Gz : GH) : Option (Int32 × GH) :=
  Option.bind (cCast Gz [11] x0) fun u2 =>
  Option.bind (cm_X3_isWord x0 x1 Gz) fun qx2 =>
  if qx2.1 = 0 then
    (mZr 0 (0, qx2.2))
  else
    Option.bind (cCast qx2.2 [11] x0) fun u11 =>
    Option.bind (cm_X3_go x0 qx2.2) fun G11 =>
    mZr 1 (1, G11)
def cm_X3_old_J25 (x0 : Nat) (G : GH) : Option (GX Int32) :=
  Option.bind (cCast G [11] x0) fun u27 =>
  Option.bind (cm_X3_wrong x0 3 G) fun qx27 =>
  cThrowW qx27.2 qx27.1
def cm_X3_old (x0 : Nat) (x1 : Int32) (Gz : GH) : Option (GX Int32) :=
  Option.bind (cCast Gz [11] x0) fun u1 =>
  gXb (cm_X3_needWord x0 Gz) fun qx1 =>
  Option.bind (cGetJ qx1.2 [11] x0 6) fun v6 =>
  Option.bind (cCast qx1.2 [11] x0) fun u9 =>
  Option.bind (cm_X3_named x0 v6 qx1.2) fun v9 =>
  if v9 = none then
    (cm_X3_old_J25 x0 qx1.2)
  else
    Option.bind v9 fun b18 =>
    Option.bind (cCast qx1.2 [13] b18) fun u18 =>
    Option.bind (cm_X5_sort b18 qx1.2) fun v18 =>
    if v18 = x1 then
      (Option.bind (cCast qx1.2 [11] x0) fun u32 =>
      Option.bind (cm_X3_go x0 qx1.2) fun G32 =>
      Option.bind (cCast G32 [13] b18) fun u36 =>
      Option.bind (cm_X5_number b18 G32) fun v36 =>
      some (.inl (v36, G32)))
    else
      cm_X3_old_J25 x0 qx1.2
def cm_X31_init (x0 : Nat) (x1 : Int32) (x2 : Int32) (Gz : GH) : Option GH :=
  Option.bind (cm_X30_init x0 Gz) fun G1 =>
  Option.bind (cPutI G1 [36] x0 0 x1) fun G6 =>
  Option.bind (cPutZ G6 [36] x0 1 x2) fun G11 =>
  some G11
def cm_X3_one_J124 (x0 : Nat) (x2 : Int32) (x3 : Nat) (x4 : Int32) (G : GH) : Option (GX Nat) :=
  Option.bind (cCast G [11] x0) fun u125 =>
  Option.bind (cm_X3_go x0 G) fun G125 =>
  Option.bind (cNew G125 36 4) fun qx128 =>
  Option.bind (cCast qx128.2 [11] x0) fun u136 =>
  gXb (cm_X3_whole x0 qx128.2) fun qx136 =>
  Option.bind (cm_X32_init qx128.1 x4 x3 qx136.1 x2 qx136.2) fun G140 =>
  some (.inl (qx128.1, G140))
def cm_X3_one_J94 (x0 : Nat) (x2 : Int32) (x3 : Nat) (s0 : Int32) (G : GH) : Option (GX Nat) :=
  if s0 = 60 then
    (cm_X3_one_J124 x0 x2 x3 s0 G)
  else
    if s0 = 62 then
      (cm_X3_one_J124 x0 x2 x3 s0 G)
    else
      if 256 ≤ s0 then
        (cm_X3_one_J124 x0 x2 x3 s0 G)
      else
        Option.bind (cCast G [11] x0) fun u120 =>
        Option.bind (cm_X3_wrong x0 1 G) fun qx120 =>
        cThrowW qx120.2 qx120.1
def cm_X3_one_J46 (x0 : Nat) (s0 : Int32) (G : GH) : Option (GX Nat) :=
  Option.bind (cCast G [11] x0) fun u51 =>
  Option.bind (cm_X3_takes x0 (cK G (100 + 71)) G) fun qx51 =>
  if qx51.1 = 0 then
    (Option.bind (cCast qx51.2 [11] x0) fun u72 =>
    gXb (cm_X3_whole x0 qx51.2) fun qx72 =>
    Option.bind (cGetR qx72.2 [11] x0 7) fun v77 =>
    if (some v77 : Option Nat) = (some (cK qx72.2 (10 + 2))) then
      (Option.bind (cGetI qx72.2 [11] x0 5) fun v87 =>
      cm_X3_one_J94 x0 s0 qx72.1 v87 qx72.2)
    else
      cm_X3_one_J94 x0 s0 qx72.1 0 qx72.2)
  else
    Option.bind (cNew qx51.2 35 2) fun qx57 =>
    Option.bind (cCast qx57.2 [11] x0) fun u63 =>
    gXb (cm_X3_old x0 1 qx57.2) fun qx63 =>
    Option.bind (cm_X31_init qx57.1 qx63.1 s0 qx63.2) fun G67 =>
    some (.inl (qx57.1, G67))
def cm_X3_one_B2 (k2 : Nat → Int32 → GH → Option (GX Nat)) (x0 : Nat) (x1 : Int32) (G : GH) : Option (GX Nat) :=
  Option.bind (cCast G [11] x0) fun u6 =>
  Option.bind (cm_X3_isWord x0 (cK G (100 + 70)) G) fun qx6 =>
  if qx6.1 = 0 then
    (if (x1 - x1 / 2 * 2) = 1 then
      (cm_X3_one_J46 x0 1 qx6.2)
    else
      cm_X3_one_J46 x0 0 qx6.2)
  else
    if x1 = 12 then
      (Option.bind (cCast qx6.2 [11] x0) fun u20 =>
      Option.bind (cm_X3_wrong x0 4 qx6.2) fun qx20 =>
      cThrowW qx20.2 qx20.1)
    else
      Option.bind (cCast qx6.2 [11] x0) fun u28 =>
      Option.bind (cm_X3_go x0 qx6.2) fun G28 =>
      k2 x0 (x1 + 1) G28
def cm_X3_one_L2 : Nat → Nat → Int32 → GH → Option (GX Nat)
  | 0 => fun _ _ _ => none
  | n + 1 => cm_X3_one_B2 (cm_X3_one_L2 n)
def cm_X3_one (x0 : Nat) (Gz : GH) : Option (GX Nat) :=
  cm_X3_one_L2 gF x0 0 Gz
def cm_X33_init (x0 : Nat) (x1 : Int32) (Gz : GH) : Option GH :=
  Option.bind (cm_X30_init x0 Gz) fun G1 =>
  Option.bind (cNew G1 2 3) fun qx5 =>
  Option.bind (cm_J6_init_2 qx5.1 2 qx5.2) fun G10 =>
  Option.bind (cPutR G10 [38] x0 1 (some qx5.1)) fun G13 =>
  Option.bind (cPutZ G13 [38] x0 0 x1) fun G18 =>
  some G18
def cm_X3_cond_J68 (k51 : Nat → Nat → GH → Option (GX Nat)) (x0 : Nat) (x2 : Nat) (s0 : Nat) (s1 : Nat) (G : GH) : Option (GX Nat) :=
  Option.bind (cCast G [11] s0) fun u68 =>
  Option.bind (cm_X3_takes s0 s1 G) fun qx68 =>
  if qx68.1 = 0 then
    (some (.inl (x2, qx68.2)))
  else
    Option.bind (cGetR qx68.2 [38] x2 1) fun v75 =>
    Option.bind (cCast qx68.2 [11] x0) fun u79 =>
    gXb (cm_X3_one x0 qx68.2) fun qx79 =>
    Option.bind (cCast qx79.2 [3] v75) fun u82 =>
    Option.bind (cm_J6_add v75 qx79.1 qx79.2) fun qx82 =>
    k51 x0 x2 qx82.2
def cm_X3_cond_B51 (k51 : Nat → Nat → GH → Option (GX Nat)) (x0 : Nat) (x2 : Nat) (G : GH) : Option (GX Nat) :=
  Option.bind (cGetI G [38] x2 0) fun v53 =>
  if v53 = 0 then
    (cm_X3_cond_J68 k51 x0 x2 x0 (cK G (100 + 73)) G)
  else
    cm_X3_cond_J68 k51 x0 x2 x0 (cK G (100 + 72)) G
def cm_X3_cond_L51 : Nat → Nat → Nat → GH → Option (GX Nat)
  | 0 => fun _ _ _ => none
  | n + 1 => cm_X3_cond_B51 (cm_X3_cond_L51 n)
def cm_X3_cond_J27 (x0 : Nat) (x1 : Nat) (G : GH) : Option (GX Nat) :=
  Option.bind (cNew G 37 2) fun qx27 =>
  Option.bind (cCast qx27.2 [11] x0) fun u35 =>
  Option.bind (cm_X3_isWord x0 (cK qx27.2 (100 + 72)) qx27.2) fun qx35 =>
  Option.bind (cm_X33_init qx27.1 qx35.1 qx35.2) fun G38 =>
  Option.bind (cGetR G38 [38] qx27.1 1) fun v43 =>
  Option.bind (cCast G38 [3] v43) fun u47 =>
  Option.bind (cm_J6_add v43 x1 G38) fun qx47 =>
  cm_X3_cond_L51 gF x0 qx27.1 qx47.2
def cm_X3_cond (x0 : Nat) (Gz : GH) : Option (GX Nat) :=
  Option.bind (cCast Gz [11] x0) fun u1 =>
  gXb (cm_X3_one x0 Gz) fun qx1 =>
  Option.bind (cCast qx1.2 [11] x0) fun u9 =>
  Option.bind (cm_X3_isWord x0 (cK qx1.2 (100 + 72)) qx1.2) fun qx9 =>
  if qx9.1 = 0 then
    (Option.bind (cCast qx9.2 [11] x0) fun u19 =>
    Option.bind (cm_X3_isWord x0 (cK qx9.2 (100 + 73)) qx9.2) fun qx19 =>
    if qx19.1 = 0 then
      (some (.inl (qx1.1, qx19.2)))
    else
      cm_X3_cond_J27 x0 qx1.1 qx19.2)
  else
    cm_X3_cond_J27 x0 qx1.1 qx9.2
def cm_X3_end (x0 : Nat) (Gz : GH) : Option Int32 :=
  Option.bind (cGetR Gz [11] x0 16) fun v1 =>
  Option.bind (cGetR Gz [14, 18, 20, 21, 23, 25, 26, 27, 28] v1 1) fun v4 =>
  Option.bind (cGetR Gz [15] v4 0) fun v7 =>
  Option.bind (cCast Gz [3] v7) fun u10 =>
  Option.bind (cm_J6_size v7 Gz) fun v10 =>
  some v10
def cm_X3_block_B44 (rc : (Nat → GH → Option (GX Unit)) × (Nat → GH → Option (GX Unit)) × (Nat → Nat → GH → Option (GX Unit)) × (Nat → Nat → GH → Option (GX Unit)) × (Nat → Nat → GH → Option (GX Unit))) (k44 : Nat → GH → Option (GX Unit)) (x0 : Nat) (G : GH) : Option (GX Unit) :=
  Option.bind (cCast G [11] x0) fun u47 =>
  Option.bind (cm_X3_isSign x0 125 G) fun v47 =>
  if v47 = 0 then
    (Option.bind (cCast G [11] x0) fun u54 =>
    gXb (rc.2.1 x0 G) fun qx54 =>
    k44 x0 qx54.2)
  else
    Option.bind (cCast G [11] x0) fun u61 =>
    Option.bind (cm_X3_go x0 G) fun G61 =>
    Option.bind (cGetI G61 [11] x0 18) fun v66 =>
    Option.bind (cPutI G61 [11] x0 18 (v66 - 1)) fun G71 =>
    some (.inl ((), G71))
def cm_X3_block_L44 (rc : (Nat → GH → Option (GX Unit)) × (Nat → GH → Option (GX Unit)) × (Nat → Nat → GH → Option (GX Unit)) × (Nat → Nat → GH → Option (GX Unit)) × (Nat → Nat → GH → Option (GX Unit))) : Nat → Nat → GH → Option (GX Unit)
  | 0 => fun _ _ => none
  | n + 1 => cm_X3_block_B44 rc (cm_X3_block_L44 rc n)
def cm_X3_block_B (rc : (Nat → GH → Option (GX Unit)) × (Nat → GH → Option (GX Unit)) × (Nat → Nat → GH → Option (GX Unit)) × (Nat → Nat → GH → Option (GX Unit)) × (Nat → Nat → GH → Option (GX Unit))) (x0 : Nat) (Gz : GH) : Option (GX Unit) :=
  Option.bind (cCast Gz [11] x0) fun u3 =>
  Option.bind (cm_X3_isSign x0 123 Gz) fun v3 =>
  if v3 = 0 then
    (Option.bind (cCast Gz [11] x0) fun u11 =>
    Option.bind (cm_X3_wrong x0 1 Gz) fun qx11 =>
    cThrowW qx11.2 qx11.1)
  else
    Option.bind (cGetI Gz [11] x0 18) fun v16 =>
    if v16 = 10 then
      (Option.bind (cCast Gz [11] x0) fun u26 =>
      Option.bind (cm_X3_wrong x0 4 Gz) fun qx26 =>
      cThrowW qx26.2 qx26.1)
    else
      Option.bind (cGetI Gz [11] x0 18) fun v32 =>
      Option.bind (cPutI Gz [11] x0 18 (v32 + 1)) fun G37 =>
      Option.bind (cCast G37 [11] x0) fun u41 =>
      Option.bind (cm_X3_go x0 G37) fun G41 =>
      cm_X3_block_L44 rc gF x0 G41
def cm_X3_step_J47 (rc : (Nat → GH → Option (GX Unit)) × (Nat → GH → Option (GX Unit)) × (Nat → Nat → GH → Option (GX Unit)) × (Nat → Nat → GH → Option (GX Unit)) × (Nat → Nat → GH → Option (GX Unit))) (x0 : Nat) (G : GH) : Option (GX Unit) :=
  Option.bind (cCast G [11] x0) fun u49 =>
  Option.bind (cm_X3_wrong x0 1 G) fun qx49 =>
  cThrowW qx49.2 qx49.1
def cm_X3_step_J90 (rc : (Nat → GH → Option (GX Unit)) × (Nat → GH → Option (GX Unit)) × (Nat → Nat → GH → Option (GX Unit)) × (Nat → Nat → GH → Option (GX Unit)) × (Nat → Nat → GH → Option (GX Unit))) (x0 : Nat) (G : GH) : Option (GX Unit) :=
  Option.bind (cCast G [11] x0) fun u92 =>
  Option.bind (cm_X3_wrong x0 5 G) fun qx92 =>
  cThrowW qx92.2 qx92.1
def cm_X3_step_J96 (rc : (Nat → GH → Option (GX Unit)) × (Nat → GH → Option (GX Unit)) × (Nat → Nat → GH → Option (GX Unit)) × (Nat → Nat → GH → Option (GX Unit)) × (Nat → Nat → GH → Option (GX Unit))) (x0 : Nat) (x1 : Int32) (x2 : Int32) (G : GH) : Option (GX Unit) :=
  Option.bind (cGetI G [11] x0 17) fun v98 =>
  Option.bind (cPutI G [11] x0 17 (v98 + 1)) fun G103 =>
  Option.bind (cGetI G103 [11] x0 3) fun v109 =>
  Option.bind (cCast G103 [11] x0) fun u112 =>
  Option.bind (cm_X3_act x0 x2 v109 G103) fun qx112 =>
  Option.bind (cCast qx112.2 [11] x0) fun u117 =>
  Option.bind (cm_X3_go x0 qx112.2) fun G117 =>
  if x2 = 0 then
    (Option.bind (cCast G117 [11] x0) fun u210 =>
    gXb (cm_X3_whole x0 G117) fun qx210 =>
    Option.bind (cPutR qx210.2 [29] qx112.1 2 (some qx210.1)) fun G213 =>
    Option.bind (cCast G213 [11] x0) fun u219 =>
    gXb (cm_X3_need x0 59 G213) fun qx219 =>
    some (.inl ((), qx219.2)))
  else
  if x2 = 1 then
    (Option.bind (cCast G117 [11] x0) fun u210 =>
    gXb (cm_X3_whole x0 G117) fun qx210 =>
    Option.bind (cPutR qx210.2 [29] qx112.1 2 (some qx210.1)) fun G213 =>
    Option.bind (cCast G213 [11] x0) fun u219 =>
    gXb (cm_X3_need x0 59 G213) fun qx219 =>
    some (.inl ((), qx219.2)))
  else
  if x2 = 2 then
    (Option.bind (cCast G117 [11] x0) fun u210 =>
    gXb (cm_X3_whole x0 G117) fun qx210 =>
    Option.bind (cPutR qx210.2 [29] qx112.1 2 (some qx210.1)) fun G213 =>
    Option.bind (cCast G213 [11] x0) fun u219 =>
    gXb (cm_X3_need x0 59 G213) fun qx219 =>
    some (.inl ((), qx219.2)))
  else
  if x2 = 3 then
    (Option.bind (cCast G117 [11] x0) fun u210 =>
    gXb (cm_X3_whole x0 G117) fun qx210 =>
    Option.bind (cPutR qx210.2 [29] qx112.1 2 (some qx210.1)) fun G213 =>
    Option.bind (cCast G213 [11] x0) fun u219 =>
    gXb (cm_X3_need x0 59 G213) fun qx219 =>
    some (.inl ((), qx219.2)))
  else
  if x2 = 4 then
    (Option.bind (cCast G117 [11] x0) fun u210 =>
    gXb (cm_X3_whole x0 G117) fun qx210 =>
    Option.bind (cPutR qx210.2 [29] qx112.1 2 (some qx210.1)) fun G213 =>
    Option.bind (cCast G213 [11] x0) fun u219 =>
    gXb (cm_X3_need x0 59 G213) fun qx219 =>
    some (.inl ((), qx219.2)))
  else
  if x2 = 5 then
    (Option.bind (cCast G117 [11] x0) fun u333 =>
    gXb (cm_X3_need x0 59 G117) fun qx333 =>
    some (.inl ((), qx333.2)))
  else
  if x2 = 6 then
    (Option.bind (cCast G117 [11] x0) fun u210 =>
    gXb (cm_X3_whole x0 G117) fun qx210 =>
    Option.bind (cPutR qx210.2 [29] qx112.1 2 (some qx210.1)) fun G213 =>
    Option.bind (cCast G213 [11] x0) fun u219 =>
    gXb (cm_X3_need x0 59 G213) fun qx219 =>
    some (.inl ((), qx219.2)))
  else
  if x2 = 7 then
    (Option.bind (cCast G117 [11] x0) fun u210 =>
    gXb (cm_X3_whole x0 G117) fun qx210 =>
    Option.bind (cPutR qx210.2 [29] qx112.1 2 (some qx210.1)) fun G213 =>
    Option.bind (cCast G213 [11] x0) fun u219 =>
    gXb (cm_X3_need x0 59 G213) fun qx219 =>
    some (.inl ((), qx219.2)))
  else
  if x2 = 8 then
    (Option.bind (cCast G117 [11] x0) fun u255 =>
    gXb (cm_X3_cond x0 G117) fun qx255 =>
    Option.bind (cPutR qx255.2 [29] qx112.1 3 (some qx255.1)) fun G258 =>
    Option.bind (cCast G258 [11] x0) fun u264 =>
    gXb (cm_X3_need x0 59 G258) fun qx264 =>
    some (.inl ((), qx264.2)))
  else
  if x2 = 9 then
    (Option.bind (cCast G117 [11] x0) fun u273 =>
    gXb (cm_X3_old x0 0 G117) fun qx273 =>
    Option.bind (cPutI qx273.2 [29] qx112.1 4 qx273.1) fun G276 =>
    Option.bind (cCast G276 [11] x0) fun u282 =>
    gXb (cm_X3_need x0 59 G276) fun qx282 =>
    some (.inl ((), qx282.2)))
  else
  if x2 = 10 then
    (Option.bind (cCast G117 [11] x0) fun u273 =>
    gXb (cm_X3_old x0 0 G117) fun qx273 =>
    Option.bind (cPutI qx273.2 [29] qx112.1 4 qx273.1) fun G276 =>
    Option.bind (cCast G276 [11] x0) fun u282 =>
    gXb (cm_X3_need x0 59 G276) fun qx282 =>
    some (.inl ((), qx282.2)))
  else
  if x2 = 11 then
    (Option.bind (cCast G117 [11] x0) fun u291 =>
    gXb (cm_X3_old x0 1 G117) fun qx291 =>
    Option.bind (cPutI qx291.2 [29] qx112.1 4 qx291.1) fun G294 =>
    Option.bind (cCast G294 [11] x0) fun u300 =>
    gXb (cm_X3_need x0 59 G294) fun qx300 =>
    some (.inl ((), qx300.2)))
  else
  if x2 = 12 then
    (Option.bind (cCast G117 [11] x0) fun u291 =>
    gXb (cm_X3_old x0 1 G117) fun qx291 =>
    Option.bind (cPutI qx291.2 [29] qx112.1 4 qx291.1) fun G294 =>
    Option.bind (cCast G294 [11] x0) fun u300 =>
    gXb (cm_X3_need x0 59 G294) fun qx300 =>
    some (.inl ((), qx300.2)))
  else
  if x2 = 13 then
    (Option.bind (cPutI G117 [29] qx112.1 4 x1) fun G227 =>
    Option.bind (cCast G227 [11] x0) fun u233 =>
    gXb (cm_X3_need x0 61 G227) fun qx233 =>
    Option.bind (cCast qx233.2 [11] x0) fun u238 =>
    gXb (cm_X3_whole x0 qx233.2) fun qx238 =>
    Option.bind (cPutR qx238.2 [29] qx112.1 2 (some qx238.1)) fun G241 =>
    Option.bind (cCast G241 [11] x0) fun u247 =>
    gXb (cm_X3_need x0 59 G241) fun qx247 =>
    some (.inl ((), qx247.2)))
  else
  if x2 = 14 then
    (Option.bind (cCast G117 [11] x0) fun u308 =>
    gXb (rc.2.2.1 x0 qx112.1 G117) fun qx308 =>
    some (.inl ((), qx308.2)))
  else
  if x2 = 15 then
    (Option.bind (cCast G117 [11] x0) fun u308 =>
    gXb (rc.2.2.1 x0 qx112.1 G117) fun qx308 =>
    some (.inl ((), qx308.2)))
  else
  if x2 = 16 then
    (Option.bind (cCast G117 [11] x0) fun u316 =>
    gXb (rc.2.2.2.1 x0 qx112.1 G117) fun qx316 =>
    some (.inl ((), qx316.2)))
  else
  if x2 = 17 then
    (Option.bind (cCast G117 [11] x0) fun u324 =>
    gXb (rc.2.2.2.2 x0 qx112.1 G117) fun qx324 =>
    some (.inl ((), qx324.2)))
  else
    Option.bind (cCast G117 [11] x0) fun u333 =>
    gXb (cm_X3_need x0 59 G117) fun qx333 =>
    some (.inl ((), qx333.2))
def cm_X3_step_J53 (rc : (Nat → GH → Option (GX Unit)) × (Nat → GH → Option (GX Unit)) × (Nat → Nat → GH → Option (GX Unit)) × (Nat → Nat → GH → Option (GX Unit)) × (Nat → Nat → GH → Option (GX Unit))) (x0 : Nat) (x1 : Int32) (x2 : Int32) (G : GH) : Option (GX Unit) :=
  Option.bind (cGetI G [11] x0 17) fun v54 =>
  if v54 = 150 then
    (Option.bind (cCast G [11] x0) fun u65 =>
    Option.bind (cm_X3_wrong x0 4 G) fun qx65 =>
    cThrowW qx65.2 qx65.1)
  else
    Option.bind (cCast G [11] x0) fun u71 =>
    Option.bind (cm_X3_canDo x0 x2 G) fun v71 =>
    if v71 = 0 then
      (cm_X3_step_J90 rc x0 G)
    else
      if x2 = 18 then
        (Option.bind (cGetI G [11] x0 19) fun v84 =>
        if v84 = 0 then
          (cm_X3_step_J90 rc x0 G)
        else
          cm_X3_step_J96 rc x0 x1 x2 G)
      else
        cm_X3_step_J96 rc x0 x1 x2 G
def cm_X3_step_J31 (rc : (Nat → GH → Option (GX Unit)) × (Nat → GH → Option (GX Unit)) × (Nat → Nat → GH → Option (GX Unit)) × (Nat → Nat → GH → Option (GX Unit)) × (Nat → Nat → GH → Option (GX Unit))) (x0 : Nat) (x1 : Int32) (s0 : Int32) (G : GH) : Option (GX Unit) :=
  if s0 = (-1) then
    (cm_X3_step_J47 rc x0 G)
  else
    if 0 ≤ x1 then
      (cm_X3_step_J53 rc x0 x1 s0 G)
    else
      if s0 = 13 then
        (cm_X3_step_J47 rc x0 G)
      else
        cm_X3_step_J53 rc x0 x1 s0 G
def cm_X3_step_B (rc : (Nat → GH → Option (GX Unit)) × (Nat → GH → Option (GX Unit)) × (Nat → Nat → GH → Option (GX Unit)) × (Nat → Nat → GH → Option (GX Unit)) × (Nat → Nat → GH → Option (GX Unit))) (x0 : Nat) (Gz : GH) : Option (GX Unit) :=
  Option.bind (cCast Gz [11] x0) fun u1 =>
  gXb (cm_X3_needWord x0 Gz) fun qx1 =>
  Option.bind (cGetJ qx1.2 [11] x0 6) fun v5 =>
  Option.bind (cm_X3_registerOf v5 qx1.2) fun qx8 =>
  if qx8.1 < 0 then
    (Option.bind (cGetJ qx8.2 [11] x0 6) fun v25 =>
    Option.bind (cm_X1_among (cK qx8.2 (100 + 65)) v25 qx8.2) fun qx28 =>
    cm_X3_step_J31 rc x0 qx8.1 qx28.1 qx28.2)
  else
    cm_X3_step_J31 rc x0 qx8.1 13 qx8.2
def cm_X3_loop_J17 (rc : (Nat → GH → Option (GX Unit)) × (Nat → GH → Option (GX Unit)) × (Nat → Nat → GH → Option (GX Unit)) × (Nat → Nat → GH → Option (GX Unit)) × (Nat → Nat → GH → Option (GX Unit))) (x0 : Nat) (x1 : Nat) (G : GH) : Option (GX Unit) :=
  Option.bind (cCast G [11] x0) fun u18 =>
  Option.bind (cm_X3_end x0 G) fun v18 =>
  Option.bind (cGetI G [11] x0 19) fun v24 =>
  Option.bind (cPutI G [11] x0 19 (v24 + 1)) fun G29 =>
  Option.bind (cCast G29 [11] x0) fun u33 =>
  gXb (rc.1 x0 G29) fun qx33 =>
  Option.bind (cGetI qx33.2 [11] x0 19) fun v38 =>
  Option.bind (cPutI qx33.2 [11] x0 19 (v38 - 1)) fun G43 =>
  Option.bind (cGetI G43 [29] x1 1) fun v50 =>
  Option.bind (cCast G43 [11] x0) fun u53 =>
  Option.bind (cm_X3_act x0 20 v50 G43) fun qx53 =>
  Option.bind (cPutI qx53.2 [29] qx53.1 5 v18) fun G59 =>
  Option.bind (cCast G59 [11] x0) fun u64 =>
  Option.bind (cm_X3_end x0 G59) fun v64 =>
  Option.bind (cPutI G59 [29] x1 5 v64) fun G67 =>
  some (.inl ((), G67))
def cm_X3_loop_B (rc : (Nat → GH → Option (GX Unit)) × (Nat → GH → Option (GX Unit)) × (Nat → Nat → GH → Option (GX Unit)) × (Nat → Nat → GH → Option (GX Unit)) × (Nat → Nat → GH → Option (GX Unit))) (x0 : Nat) (x1 : Nat) (Gz : GH) : Option (GX Unit) :=
  Option.bind (cGetI Gz [29] x1 0) fun v1 =>
  if v1 = 14 then
    (Option.bind (cCast Gz [11] x0) fun u11 =>
    gXb (cm_X3_whole x0 Gz) fun qx11 =>
    Option.bind (cPutR qx11.2 [29] x1 2 (some qx11.1)) fun G14 =>
    cm_X3_loop_J17 rc x0 x1 G14)
  else
    cm_X3_loop_J17 rc x0 x1 Gz
def cm_X3_whether_B (rc : (Nat → GH → Option (GX Unit)) × (Nat → GH → Option (GX Unit)) × (Nat → Nat → GH → Option (GX Unit)) × (Nat → Nat → GH → Option (GX Unit)) × (Nat → Nat → GH → Option (GX Unit))) (x0 : Nat) (x1 : Nat) (Gz : GH) : Option (GX Unit) :=
  Option.bind (cCast Gz [11] x0) fun u2 =>
  gXb (cm_X3_cond x0 Gz) fun qx2 =>
  Option.bind (cPutR qx2.2 [29] x1 3 (some qx2.1)) fun G5 =>
  Option.bind (cCast G5 [11] x0) fun u9 =>
  gXb (rc.1 x0 G5) fun qx9 =>
  Option.bind (cCast qx9.2 [11] x0) fun u16 =>
  Option.bind (cm_X3_isWord x0 (cK qx9.2 (100 + 74)) qx9.2) fun qx16 =>
  if qx16.1 = 0 then
    (Option.bind (cCast qx16.2 [11] x0) fun u24 =>
    Option.bind (cm_X3_end x0 qx16.2) fun v24 =>
    Option.bind (cPutI qx16.2 [29] x1 5 v24) fun G27 =>
    some (.inl ((), G27)))
  else
    Option.bind (cCast qx16.2 [11] x0) fun u35 =>
    Option.bind (cm_X3_act x0 21 (-1) qx16.2) fun qx35 =>
    Option.bind (cCast qx35.2 [11] x0) fun u41 =>
    Option.bind (cm_X3_end x0 qx35.2) fun v41 =>
    Option.bind (cPutI qx35.2 [29] x1 5 v41) fun G44 =>
    Option.bind (cCast G44 [11] x0) fun u48 =>
    Option.bind (cm_X3_go x0 G44) fun G48 =>
    Option.bind (cCast G48 [11] x0) fun u52 =>
    gXb (rc.1 x0 G48) fun qx52 =>
    Option.bind (cCast qx52.2 [11] x0) fun u57 =>
    Option.bind (cm_X3_end x0 qx52.2) fun v57 =>
    Option.bind (cPutI qx52.2 [29] qx35.1 5 v57) fun G60 =>
    some (.inl ((), G60))
def cm_X3_guard_B (rc : (Nat → GH → Option (GX Unit)) × (Nat → GH → Option (GX Unit)) × (Nat → Nat → GH → Option (GX Unit)) × (Nat → Nat → GH → Option (GX Unit)) × (Nat → Nat → GH → Option (GX Unit))) (x0 : Nat) (x1 : Nat) (Gz : GH) : Option (GX Unit) :=
  Option.bind (cCast Gz [11] x0) fun u1 =>
  gXb (rc.1 x0 Gz) fun qx1 =>
  Option.bind (cCast qx1.2 [11] x0) fun u8 =>
  Option.bind (cm_X3_act x0 22 (-1) qx1.2) fun qx8 =>
  Option.bind (cCast qx8.2 [11] x0) fun u14 =>
  Option.bind (cm_X3_end x0 qx8.2) fun v14 =>
  Option.bind (cPutI qx8.2 [29] x1 5 v14) fun G17 =>
  Option.bind (cCast G17 [11] x0) fun u24 =>
  Option.bind (cm_X3_takes x0 (cK G17 (100 + 75)) G17) fun qx24 =>
  if qx24.1 = 0 then
    (Option.bind (cCast qx24.2 [11] x0) fun u32 =>
    Option.bind (cm_X3_wrong x0 1 qx24.2) fun qx32 =>
    cThrowW qx32.2 qx32.1)
  else
    Option.bind (cCast qx24.2 [11] x0) fun u37 =>
    gXb (rc.1 x0 qx24.2) fun qx37 =>
    Option.bind (cCast qx37.2 [11] x0) fun u42 =>
    Option.bind (cm_X3_end x0 qx37.2) fun v42 =>
    Option.bind (cPutI qx37.2 [29] qx8.1 5 v42) fun G45 =>
    some (.inl ((), G45))
def cm_S231 : Nat → (Nat → GH → Option (GX Unit)) × (Nat → GH → Option (GX Unit)) × (Nat → Nat → GH → Option (GX Unit)) × (Nat → Nat → GH → Option (GX Unit)) × (Nat → Nat → GH → Option (GX Unit))
  | 0 => (fun _ _ => none, fun _ _ => none, fun _ _ _ => none, fun _ _ _ => none, fun _ _ _ => none)
  | d + 1 => (cm_X3_block_B (cm_S231 d), cm_X3_step_B (cm_S231 d), cm_X3_loop_B (cm_S231 d), cm_X3_whether_B (cm_S231 d), cm_X3_guard_B (cm_S231 d))
def cm_X3_block (d : Nat) : Nat → GH → Option (GX Unit) := (cm_S231 d).1
def cm_X3_step (d : Nat) : Nat → GH → Option (GX Unit) := (cm_S231 d).2.1
def cm_X3_loop (d : Nat) : Nat → Nat → GH → Option (GX Unit) := (cm_S231 d).2.2.1
def cm_X3_whether (d : Nat) : Nat → Nat → GH → Option (GX Unit) := (cm_S231 d).2.2.2.1
def cm_X3_guard (d : Nat) : Nat → Nat → GH → Option (GX Unit) := (cm_S231 d).2.2.2.2
def cm_X3_small_J32 (x0 : Nat) (G : GH) : Option (GX Int32) :=
  Option.bind (cCast G [11] x0) fun u34 =>
  Option.bind (cm_X3_wrong x0 5 G) fun qx34 =>
  cThrowW qx34.2 qx34.1
def cm_X3_small (x0 : Nat) (x1 : Int32) (x2 : Int32) (Gz : GH) : Option (GX Int32) :=
  Option.bind (cGetR Gz [11] x0 7) fun v1 =>
  if (some v1 : Option Nat) = (some (cK Gz (10 + 1))) then
    (Option.bind (cGetI Gz [11] x0 4) fun v17 =>
    if v17 < x1 then
      (cm_X3_small_J32 x0 Gz)
    else
      Option.bind (cGetI Gz [11] x0 4) fun v25 =>
      if v25 ≤ x2 then
        (Option.bind (cGetI Gz [11] x0 4) fun v39 =>
        Option.bind (cCast Gz [11] x0) fun u44 =>
        Option.bind (cm_X3_go x0 Gz) fun G44 =>
        some (.inl (v39, G44)))
      else
        cm_X3_small_J32 x0 Gz)
  else
    Option.bind (cCast Gz [11] x0) fun u12 =>
    Option.bind (cm_X3_wrong x0 1 Gz) fun qx12 =>
    cThrowW qx12.2 qx12.1
def cm_X3_newName_J25 (x0 : Nat) (G : GH) : Option (GX Unit) :=
  Option.bind (cCast G [11] x0) fun u27 =>
  Option.bind (cm_X3_wrong x0 2 G) fun qx27 =>
  cThrowW qx27.2 qx27.1
def cm_X3_newName (x0 : Nat) (x1 : Int32) (x2 : Int32) (Gz : GH) : Option (GX Unit) :=
  Option.bind (cCast Gz [11] x0) fun u1 =>
  gXb (cm_X3_needWord x0 Gz) fun qx1 =>
  Option.bind (cGetJ qx1.2 [11] x0 6) fun v5 =>
  Option.bind (cm_X1_isReserved v5 qx1.2) fun qx8 =>
  if qx8.1 = 0 then
    (Option.bind (cGetJ qx8.2 [11] x0 6) fun v16 =>
    Option.bind (cCast qx8.2 [11] x0) fun u19 =>
    Option.bind (cm_X3_named x0 v16 qx8.2) fun v19 =>
    if v19 = none then
      (Option.bind (cGetR qx8.2 [11] x0 8) fun v32 =>
      Option.bind (cNew qx8.2 12 3) fun qx35 =>
      Option.bind (cGetJ qx35.2 [11] x0 6) fun v40 =>
      Option.bind (cm_X5_init qx35.1 v40 x1 x2 qx35.2) fun G45 =>
      Option.bind (cCast G45 [3] v32) fun u48 =>
      Option.bind (cm_J6_add v32 qx35.1 G45) fun qx48 =>
      Option.bind (cCast qx48.2 [11] x0) fun u53 =>
      Option.bind (cm_X3_go x0 qx48.2) fun G53 =>
      some (.inl ((), G53)))
    else
      cm_X3_newName_J25 x0 qx8.2)
  else
    cm_X3_newName_J25 x0 qx8.2
def cm_X3_mosts (x0 : Int32) (Gz : GH) : Option (Nat × GH) :=
  if x0 = 0 then
    (Option.bind (cNewA Gz 100 3) fun qx53 =>
    Option.bind (cAstI qx53.2 qx53.1 0 500) fun G60 =>
    Option.bind (cAstI G60 qx53.1 1 50) fun G65 =>
    Option.bind (cAstI G65 qx53.1 2 60) fun G70 =>
    some (qx53.1, G70))
  else
  if x0 = 1 then
    (Option.bind (cNewA Gz 100 3) fun qx73 =>
    Option.bind (cAstI qx73.2 qx73.1 0 500) fun G80 =>
    Option.bind (cAstI G80 qx73.1 1 200) fun G86 =>
    Option.bind (cAstI G86 qx73.1 2 60) fun G91 =>
    some (qx73.1, G91))
  else
  if x0 = 2 then
    (Option.bind (cNewA Gz 100 5) fun qx94 =>
    Option.bind (cAstI qx94.2 qx94.1 0 500) fun G101 =>
    Option.bind (cAstI G101 qx94.1 1 50) fun G106 =>
    Option.bind (cAstI G106 qx94.1 2 500) fun G112 =>
    Option.bind (cAstI G112 qx94.1 3 200) fun G118 =>
    Option.bind (cAstI G118 qx94.1 4 60) fun G123 =>
    some (qx94.1, G123))
  else
  if x0 = 3 then
    (Option.bind (cNewA Gz 100 2) fun qx126 =>
    Option.bind (cAstI qx126.2 qx126.1 0 500) fun G133 =>
    Option.bind (cAstI G133 qx126.1 1 50) fun G138 =>
    some (qx126.1, G138))
  else
  if x0 = 4 then
    (Option.bind (cNewA Gz 100 1) fun qx141 =>
    Option.bind (cAstI qx141.2 qx141.1 0 500) fun G148 =>
    some (qx141.1, G148))
  else
  if x0 = 5 then
    (Option.bind (cNewA Gz 100 3) fun qx151 =>
    Option.bind (cAstI qx151.2 qx151.1 0 500) fun G158 =>
    Option.bind (cAstI G158 qx151.1 1 200) fun G164 =>
    Option.bind (cAstI G164 qx151.1 2 500) fun G170 =>
    some (qx151.1, G170))
  else
  if x0 = 6 then
    (Option.bind (cNewA Gz 100 2) fun qx173 =>
    Option.bind (cAstI qx173.2 qx173.1 0 60) fun G179 =>
    Option.bind (cAstI G179 qx173.1 1 500) fun G185 =>
    some (qx173.1, G185))
  else
  if x0 = 7 then
    (Option.bind (cNewA Gz 100 6) fun qx189 =>
    Option.bind (cAstI qx189.2 qx189.1 0 500) fun G196 =>
    Option.bind (cAstI G196 qx189.1 1 50) fun G201 =>
    Option.bind (cAstI G201 qx189.1 2 500) fun G207 =>
    Option.bind (cAstI G207 qx189.1 3 200) fun G213 =>
    Option.bind (cAstI G213 qx189.1 4 60) fun G218 =>
    Option.bind (cAstI G218 qx189.1 5 500) fun G224 =>
    some (qx189.1, G224))
  else
  if x0 = 8 then
    (Option.bind (cNewA Gz 100 3) fun qx53 =>
    Option.bind (cAstI qx53.2 qx53.1 0 500) fun G60 =>
    Option.bind (cAstI G60 qx53.1 1 50) fun G65 =>
    Option.bind (cAstI G65 qx53.1 2 60) fun G70 =>
    some (qx53.1, G70))
  else
    Option.bind (cNewA Gz 100 6) fun qx189 =>
    Option.bind (cAstI qx189.2 qx189.1 0 500) fun G196 =>
    Option.bind (cAstI G196 qx189.1 1 50) fun G201 =>
    Option.bind (cAstI G201 qx189.1 2 500) fun G207 =>
    Option.bind (cAstI G207 qx189.1 3 200) fun G213 =>
    Option.bind (cAstI G213 qx189.1 4 60) fun G218 =>
    Option.bind (cAstI G218 qx189.1 5 500) fun G224 =>
    some (qx189.1, G224)
def cm_X7_init (x0 : Nat) (x1 : Nat) (Gz : GH) : Option GH :=
  Option.bind (cm_X6_init x0 0 Gz) fun G2 =>
  Option.bind (cNew G2 15 4) fun qx6 =>
  Option.bind (cAldI qx6.2 x1 0) fun v12 =>
  Option.bind (cAldI qx6.2 x1 1) fun v15 =>
  Option.bind (cm_X9_init qx6.1 v12 v15 qx6.2) fun G16 =>
  Option.bind (cPutR G16 [14] x0 3 (some qx6.1)) fun G19 =>
  Option.bind (cNew G19 16 8) fun qx23 =>
  Option.bind (cAldI qx23.2 x1 2) fun v29 =>
  Option.bind (cm_X10_init qx23.1 v29 qx23.2) fun G30 =>
  Option.bind (cPutR G30 [14] x0 4 (some qx23.1)) fun G33 =>
  some G33
def cm_X11_init (x0 : Nat) (x1 : Nat) (Gz : GH) : Option GH :=
  Option.bind (cm_X6_init x0 1 Gz) fun G2 =>
  Option.bind (cNew G2 18 5) fun qx6 =>
  Option.bind (cAldI qx6.2 x1 0) fun v12 =>
  Option.bind (cAldI qx6.2 x1 1) fun v15 =>
  Option.bind (cm_X12_init qx6.1 v12 v15 qx6.2) fun G16 =>
  Option.bind (cPutR G16 [18] x0 3 (some qx6.1)) fun G19 =>
  Option.bind (cNew G19 16 8) fun qx23 =>
  Option.bind (cAldI qx23.2 x1 2) fun v29 =>
  Option.bind (cm_X10_init qx23.1 v29 qx23.2) fun G30 =>
  Option.bind (cPutR G30 [18] x0 4 (some qx23.1)) fun G33 =>
  some G33
def cm_X13_init (x0 : Nat) (x1 : Nat) (Gz : GH) : Option GH :=
  Option.bind (cm_X6_init x0 2 Gz) fun G2 =>
  Option.bind (cNew G2 15 4) fun qx6 =>
  Option.bind (cAldI qx6.2 x1 0) fun v12 =>
  Option.bind (cAldI qx6.2 x1 1) fun v15 =>
  Option.bind (cm_X9_init qx6.1 v12 v15 qx6.2) fun G16 =>
  Option.bind (cPutR G16 [20] x0 3 (some qx6.1)) fun G19 =>
  Option.bind (cNew G19 18 5) fun qx23 =>
  Option.bind (cAldI qx23.2 x1 2) fun v29 =>
  Option.bind (cAldI qx23.2 x1 3) fun v32 =>
  Option.bind (cm_X12_init qx23.1 v29 v32 qx23.2) fun G33 =>
  Option.bind (cPutR G33 [20] x0 4 (some qx23.1)) fun G36 =>
  Option.bind (cNew G36 16 8) fun qx40 =>
  Option.bind (cAldI qx40.2 x1 4) fun v46 =>
  Option.bind (cm_X10_init qx40.1 v46 qx40.2) fun G47 =>
  Option.bind (cPutR G47 [20] x0 5 (some qx40.1)) fun G50 =>
  some G50
def cm_X20_init (x0 : Nat) (x1 : Nat) (Gz : GH) : Option GH :=
  Option.bind (cm_X6_init x0 7 Gz) fun G3 =>
  Option.bind (cNew G3 21 1) fun qx7 =>
  Option.bind (cm_X15_init qx7.1 qx7.2) fun G11 =>
  Option.bind (cPutR G11 [27] x0 7 (some qx7.1)) fun G14 =>
  Option.bind (cNew G14 15 4) fun qx18 =>
  Option.bind (cAldI qx18.2 x1 0) fun v24 =>
  Option.bind (cAldI qx18.2 x1 1) fun v27 =>
  Option.bind (cm_X9_init qx18.1 v24 v27 qx18.2) fun G28 =>
  Option.bind (cPutR G28 [27] x0 3 (some qx18.1)) fun G31 =>
  Option.bind (cNew G31 18 5) fun qx35 =>
  Option.bind (cAldI qx35.2 x1 2) fun v41 =>
  Option.bind (cAldI qx35.2 x1 3) fun v44 =>
  Option.bind (cm_X12_init qx35.1 v41 v44 qx35.2) fun G45 =>
  Option.bind (cPutR G45 [27] x0 4 (some qx35.1)) fun G48 =>
  Option.bind (cNew G48 16 8) fun qx52 =>
  Option.bind (cAldI qx52.2 x1 4) fun v58 =>
  Option.bind (cm_X10_init qx52.1 v58 qx52.2) fun G59 =>
  Option.bind (cPutR G59 [27] x0 5 (some qx52.1)) fun G62 =>
  Option.bind (cNew G62 23 2) fun qx66 =>
  Option.bind (cAldI qx66.2 x1 5) fun v72 =>
  Option.bind (cm_X17_init qx66.1 v72 qx66.2) fun G73 =>
  Option.bind (cPutR G73 [27] x0 6 (some qx66.1)) fun G76 =>
  some G76
def cm_X3_leader_J39 (x0 : Nat) (G : GH) : Option (GX Nat) :=
  Option.bind (cCast G [11] x0) fun u41 =>
  Option.bind (cm_X3_wrong x0 3 G) fun qx41 =>
  cThrowW qx41.2 qx41.1
def cm_X3_leader_J74 (x0 : Nat) (G : GH) : Option (GX Nat) :=
  Option.bind (cCast G [11] x0) fun u76 =>
  Option.bind (cm_X3_wrong x0 5 G) fun qx76 =>
  cThrowW qx76.2 qx76.1
def cm_X3_leader (x0 : Nat) (Gz : GH) : Option (GX Nat) :=
  Option.bind (cCast Gz [11] x0) fun u1 =>
  gXb (cm_X3_needWord x0 Gz) fun qx1 =>
  Option.bind (cGetJ qx1.2 [11] x0 6) fun v6 =>
  Option.bind (cCast qx1.2 [11] x0) fun u9 =>
  Option.bind (cm_X3_named x0 v6 qx1.2) fun v9 =>
  if v9 = none then
    (cm_X3_leader_J39 x0 qx1.2)
  else
    Option.bind v9 fun b18 =>
    Option.bind (cCast qx1.2 [13] b18) fun u18 =>
    Option.bind (cm_X5_sort b18 qx1.2) fun v18 =>
    if v18 = 2 then
      (Option.bind (cCast qx1.2 [13] b18) fun u26 =>
      Option.bind (cm_X5_number b18 qx1.2) fun v26 =>
      Option.bind (cGetR qx1.2 [11] x0 10) fun v30 =>
      Option.bind (cCast qx1.2 [3] v30) fun u33 =>
      Option.bind (cm_J6_size v30 qx1.2) fun v33 =>
      if v26 = v33 then
        (cm_X3_leader_J39 x0 qx1.2)
      else
        Option.bind (cGetR qx1.2 [11] x0 10) fun v46 =>
        Option.bind (cCast qx1.2 [13] b18) fun u50 =>
        Option.bind (cm_X5_number b18 qx1.2) fun v50 =>
        Option.bind (cCast qx1.2 [3] v46) fun u53 =>
        Option.bind (cm_J6_get v46 v50 qx1.2) fun v53 =>
        Option.bind v53 fun b56 =>
        Option.bind (cCast qx1.2 [14, 18, 20, 21, 23, 25, 26, 27, 28] b56) fun u56 =>
        Option.bind (cInst qx1.2 [14, 20, 21, 27, 28] [18, 23, 25, 26] b56) fun v61 =>
        if v61 = 0 then
          (cm_X3_leader_J74 x0 qx1.2)
        else
          Option.bind (cInst qx1.2 [28] [14, 18, 20, 21, 23, 25, 26, 27] b56) fun v68 =>
          if v68 = 0 then
            (Option.bind (cCast qx1.2 [14, 20, 21, 27, 28] b56) fun u81 =>
            Option.bind (cCast qx1.2 [11] x0) fun u86 =>
            Option.bind (cm_X3_go x0 qx1.2) fun G86 =>
            Option.bind (cd_Turns_spin b56 G86) fun v90 =>
            some (.inl (v90, G86)))
          else
            cm_X3_leader_J74 x0 qx1.2)
    else
      cm_X3_leader_J39 x0 qx1.2
def cm_X21_init (x0 : Nat) (x1 : Nat) (x2 : Nat) (Gz : GH) : Option GH :=
  Option.bind (cm_X6_init x0 8 Gz) fun G3 =>
  Option.bind (cNew G3 15 4) fun qx7 =>
  Option.bind (cAldI qx7.2 x1 0) fun v13 =>
  Option.bind (cAldI qx7.2 x1 1) fun v16 =>
  Option.bind (cm_X9_init qx7.1 v13 v16 qx7.2) fun G17 =>
  Option.bind (cPutR G17 [28] x0 3 (some qx7.1)) fun G20 =>
  Option.bind (cNew G20 16 8) fun qx24 =>
  Option.bind (cAldI qx24.2 x1 2) fun v30 =>
  Option.bind (cm_X10_init qx24.1 v30 qx24.2) fun G31 =>
  Option.bind (cPutR G31 [28] x0 5 (some qx24.1)) fun G34 =>
  Option.bind (cPutR G34 [28] x0 4 (some x2)) fun G39 =>
  some G39
def cm_X3_made (x0 : Nat) (x1 : Int32) (x2 : Nat) (Gz : GH) : Option (GX Nat) :=
  if x1 = 0 then
    (Option.bind (cNew Gz 13 5) fun qx48 =>
    Option.bind (cm_X7_init qx48.1 x2 qx48.2) fun G53 =>
    some (.inl (qx48.1, G53)))
  else
  if x1 = 1 then
    (Option.bind (cNew Gz 17 5) fun qx57 =>
    Option.bind (cm_X11_init qx57.1 x2 qx57.2) fun G62 =>
    some (.inl (qx57.1, G62)))
  else
  if x1 = 2 then
    (Option.bind (cNew Gz 19 6) fun qx66 =>
    Option.bind (cm_X13_init qx66.1 x2 qx66.2) fun G71 =>
    some (.inl (qx66.1, G71)))
  else
  if x1 = 3 then
    (Option.bind (cNew Gz 20 5) fun qx75 =>
    Option.bind (cm_X14_init qx75.1 x2 qx75.2) fun G80 =>
    some (.inl (qx75.1, G80)))
  else
  if x1 = 4 then
    (Option.bind (cNew Gz 22 4) fun qx84 =>
    Option.bind (cm_X16_init qx84.1 x2 qx84.2) fun G89 =>
    some (.inl (qx84.1, G89)))
  else
  if x1 = 5 then
    (Option.bind (cNew Gz 24 6) fun qx93 =>
    Option.bind (cm_X18_init qx93.1 x2 qx93.2) fun G98 =>
    some (.inl (qx93.1, G98)))
  else
  if x1 = 6 then
    (Option.bind (cNew Gz 25 6) fun qx102 =>
    Option.bind (cm_X19_init qx102.1 x2 qx102.2) fun G107 =>
    some (.inl (qx102.1, G107)))
  else
  if x1 = 7 then
    (Option.bind (cNew Gz 26 8) fun qx111 =>
    Option.bind (cm_X20_init qx111.1 x2 qx111.2) fun G116 =>
    some (.inl (qx111.1, G116)))
  else
    Option.bind (cNew Gz 27 6) fun qx120 =>
    Option.bind (cCast qx120.2 [11] x0) fun u126 =>
    gXb (cm_X3_leader x0 qx120.2) fun qx126 =>
    Option.bind (cm_X21_init qx120.1 x2 qx126.1 qx126.2) fun G129 =>
    some (.inl (qx120.1, G129))
def cm_X3_ride_B46 (k46 : Nat → Int32 → Nat → Int32 → GH → Option (GX Unit)) (x0 : Nat) (x1 : Int32) (x2 : Nat) (x3 : Int32) (G : GH) : Option (GX Unit) :=
  Option.bind (cLen G x2) fun v48 =>
  if v48 ≤ x3 then
    (Option.bind (cCast G [11] x0) fun u73 =>
    gXb (cm_X3_made x0 x1 x2 G) fun qx73 =>
    Option.bind (cPutR qx73.2 [11] x0 16 (some qx73.1)) fun G76 =>
    Option.bind (cGetR G76 [11] x0 10) fun v80 =>
    Option.bind (cGetR G76 [11] x0 16) fun v84 =>
    Option.bind (cCast G76 [3] v80) fun u87 =>
    Option.bind (cm_J6_add v80 v84 G76) fun qx87 =>
    Option.bind (cPutI qx87.2 [11] x0 17 0) fun G93 =>
    Option.bind (cPutI G93 [11] x0 18 0) fun G98 =>
    Option.bind (cPutI G98 [11] x0 19 0) fun G103 =>
    Option.bind (cCast G103 [11] x0) fun u107 =>
    gXb (cm_X3_block 60 x0 G103) fun qx107 =>
    Option.bind (cGetR qx107.2 [11] x0 16) fun v111 =>
    Option.bind (cGetR qx107.2 [14, 18, 20, 21, 23, 25, 26, 27, 28] v111 1) fun v114 =>
    Option.bind (cNew qx107.2 28 6) fun qx117 =>
    Option.bind (cm_X22_init qx117.1 23 (-1) qx117.2) fun G124 =>
    Option.bind (cCast G124 [15] v114) fun u127 =>
    Option.bind (cm_X8_add v114 qx117.1 G124) fun qx127 =>
    some (.inl ((), qx127.2)))
  else
    Option.bind (cAldI G x2 x3) fun v58 =>
    Option.bind (cCast G [11] x0) fun u59 =>
    gXb (cm_X3_small x0 1 v58 G) fun qx59 =>
    Option.bind (cAstI qx59.2 x2 x3 qx59.1) fun G62 =>
    k46 x0 x1 x2 (x3 + 1) G62
def cm_X3_ride_L46 : Nat → Nat → Int32 → Nat → Int32 → GH → Option (GX Unit)
  | 0 => fun _ _ _ _ _ => none
  | n + 1 => cm_X3_ride_B46 (cm_X3_ride_L46 n)
def cm_X3_ride_J23 (x0 : Nat) (s0 : Int32) (G : GH) : Option (GX Unit) :=
  if s0 = (-1) then
    (Option.bind (cCast G [11] x0) fun u31 =>
    Option.bind (cm_X3_wrong x0 1 G) fun qx31 =>
    cThrowW qx31.2 qx31.1)
  else
    Option.bind (cCast G [11] x0) fun u36 =>
    Option.bind (cm_X3_go x0 G) fun G36 =>
    Option.bind (cm_X3_mosts s0 G36) fun qx40 =>
    cm_X3_ride_L46 gF x0 s0 qx40.1 0 qx40.2
def cm_X3_ride (x0 : Nat) (Gz : GH) : Option (GX Unit) :=
  Option.bind (cGetR Gz [11] x0 7) fun v1 =>
  if (some v1 : Option Nat) = (some (cK Gz (10 + 0))) then
    (Option.bind (cGetJ Gz [11] x0 6) fun v13 =>
    Option.bind (cm_X1_among (cK Gz (100 + 63)) v13 Gz) fun qx16 =>
    cm_X3_ride_J23 x0 qx16.1 qx16.2)
  else
    cm_X3_ride_J23 x0 (-1) Gz
def cm_X3_fair_J320 (x2 : Nat) (G : GH) : Option (GX Unit) :=
  Option.bind (cNew G 38 8) fun qx320 =>
  Option.bind (cGetI qx320.2 [32] x2 1) fun v326 =>
  Option.bind (cm_X4_init qx320.1 3 v326 qx320.2) fun G329 =>
  cThrowW G329 qx320.1
def cm_X3_fair_B276 (k276 : Nat → Int32 → GH → Option (GX Unit)) (x0 : Nat) (x1 : Int32) (G : GH) : Option (GX Unit) :=
  Option.bind (cGetR G [11] x0 9) fun v278 =>
  Option.bind (cCast G [3] v278) fun u281 =>
  Option.bind (cm_J6_size v278 G) fun v281 =>
  if v281 ≤ x1 then
    (some (.inl ((), G)))
  else
    Option.bind (cGetR G [11] x0 9) fun v288 =>
    Option.bind (cCast G [3] v288) fun u292 =>
    Option.bind (cm_J6_get v288 x1 G) fun v292 =>
    Option.bind v292 fun b295 =>
    Option.bind (cCast G [32] b295) fun u295 =>
    Option.bind (cGetJ G [32] b295 2) fun v301 =>
    Option.bind (cCast G [11] x0) fun u304 =>
    Option.bind (cm_X3_named x0 v301 G) fun v304 =>
    if v304 = none then
      (cm_X3_fair_J320 b295 G)
    else
      Option.bind v304 fun b313 =>
      Option.bind (cCast G [13] b313) fun u313 =>
      Option.bind (cm_X5_sort b313 G) fun v313 =>
      if v313 = 2 then
        (Option.bind (cGetR G [11] x0 10) fun v335 =>
        Option.bind (cCast G [13] b313) fun u339 =>
        Option.bind (cm_X5_number b313 G) fun v339 =>
        Option.bind (cCast G [3] v335) fun u342 =>
        Option.bind (cm_J6_get v335 v339 G) fun v342 =>
        Option.bind v342 fun b345 =>
        Option.bind (cCast G [14, 18, 20, 21, 23, 25, 26, 27, 28] b345) fun u345 =>
        Option.bind (cPutR G [32] b295 3 (some b345)) fun G348 =>
        k276 x0 (x1 + 1) G348)
      else
        cm_X3_fair_J320 b295 G
def cm_X3_fair_L276 : Nat → Nat → Int32 → GH → Option (GX Unit)
  | 0 => fun _ _ _ => none
  | n + 1 => cm_X3_fair_B276 (cm_X3_fair_L276 n)
def cm_X3_fair_J255 (k4 : Nat → GH → Option (GX Unit)) (x0 : Nat) (G : GH) : Option (GX Unit) :=
  k4 x0 G
def cm_X3_fair_B4 (k4 : Nat → GH → Option (GX Unit)) (x0 : Nat) (G : GH) : Option (GX Unit) :=
  Option.bind (cGetR G [11] x0 7) fun v5 =>
  if (some v5 : Option Nat) = (some (cK G (10 + 4))) then
    (Option.bind (cGetR G [11] x0 10) fun v259 =>
    Option.bind (cCast G [3] v259) fun u262 =>
    Option.bind (cm_J6_size v259 G) fun v262 =>
    if v262 = 0 then
      (Option.bind (cCast G [11] x0) fun u270 =>
      Option.bind (cm_X3_wrong x0 1 G) fun qx270 =>
      cThrowW qx270.2 qx270.1)
    else
      cm_X3_fair_L276 gF x0 0 G)
  else
    Option.bind (cGetI G [11] x0 3) fun v15 =>
    Option.bind (cCast G [11] x0) fun u22 =>
    Option.bind (cm_X3_isWord x0 (cK G (100 + 59)) G) fun qx22 =>
    if qx22.1 = 0 then
      (Option.bind (cCast qx22.2 [11] x0) fun u74 =>
      Option.bind (cm_X3_isWord x0 (cK qx22.2 (100 + 60)) qx22.2) fun qx74 =>
      if qx74.1 = 0 then
        (Option.bind (cCast qx74.2 [11] x0) fun u146 =>
        Option.bind (cm_X3_isWord x0 (cK qx74.2 (100 + 61)) qx74.2) fun qx146 =>
        if qx146.1 = 0 then
          (Option.bind (cCast qx146.2 [11] x0) fun u202 =>
          Option.bind (cm_X3_isWord x0 (cK qx146.2 (100 + 62)) qx146.2) fun qx202 =>
          if qx202.1 = 0 then
            (Option.bind (cCast qx202.2 [11] x0) fun u251 =>
            Option.bind (cm_X3_wrong x0 1 qx202.2) fun qx251 =>
            cThrowW qx251.2 qx251.1)
          else
            Option.bind (cGetR qx202.2 [11] x0 10) fun v209 =>
            Option.bind (cCast qx202.2 [3] v209) fun u212 =>
            Option.bind (cm_J6_size v209 qx202.2) fun v212 =>
            if v212 = 12 then
              (Option.bind (cCast qx202.2 [11] x0) fun u222 =>
              Option.bind (cm_X3_wrong x0 4 qx202.2) fun qx222 =>
              cThrowW qx222.2 qx222.1)
            else
              Option.bind (cCast qx202.2 [11] x0) fun u227 =>
              Option.bind (cm_X3_go x0 qx202.2) fun G227 =>
              Option.bind (cGetR G227 [11] x0 10) fun v233 =>
              Option.bind (cCast G227 [3] v233) fun u236 =>
              Option.bind (cm_J6_size v233 G227) fun v236 =>
              Option.bind (cCast G227 [11] x0) fun u239 =>
              gXb (cm_X3_newName x0 2 v236 G227) fun qx239 =>
              Option.bind (cCast qx239.2 [11] x0) fun u243 =>
              gXb (cm_X3_ride x0 qx239.2) fun qx243 =>
              cm_X3_fair_J255 k4 x0 qx243.2)
        else
          Option.bind (cGetI qx146.2 [11] x0 13) fun v153 =>
          if v153 = 8 then
            (Option.bind (cCast qx146.2 [11] x0) fun u163 =>
            Option.bind (cm_X3_wrong x0 4 qx146.2) fun qx163 =>
            cThrowW qx163.2 qx163.1)
          else
            Option.bind (cCast qx146.2 [11] x0) fun u168 =>
            Option.bind (cm_X3_go x0 qx146.2) fun G168 =>
            Option.bind (cGetI G168 [11] x0 13) fun v174 =>
            Option.bind (cCast G168 [11] x0) fun u177 =>
            gXb (cm_X3_newName x0 1 v174 G168) fun qx177 =>
            Option.bind (cGetI qx177.2 [11] x0 13) fun v182 =>
            Option.bind (cPutI qx177.2 [11] x0 13 (v182 + 1)) fun G187 =>
            Option.bind (cCast G187 [11] x0) fun u193 =>
            gXb (cm_X3_need x0 59 G187) fun qx193 =>
            cm_X3_fair_J255 k4 x0 qx193.2)
      else
        Option.bind (cGetI qx74.2 [11] x0 12) fun v81 =>
        if v81 = 6 then
          (Option.bind (cCast qx74.2 [11] x0) fun u91 =>
          Option.bind (cm_X3_wrong x0 4 qx74.2) fun qx91 =>
          cThrowW qx91.2 qx91.1)
        else
          Option.bind (cCast qx74.2 [11] x0) fun u96 =>
          Option.bind (cm_X3_go x0 qx74.2) fun G96 =>
          Option.bind (cGetI G96 [11] x0 12) fun v102 =>
          Option.bind (cCast G96 [11] x0) fun u105 =>
          gXb (cm_X3_newName x0 0 v102 G96) fun qx105 =>
          Option.bind (cGetR qx105.2 [11] x0 11) fun v109 =>
          Option.bind (cGetI qx105.2 [11] x0 12) fun v113 =>
          Option.bind (cCast qx105.2 [11] x0) fun u120 =>
          gXb (cm_X3_small x0 1 9 qx105.2) fun qx120 =>
          Option.bind (cAstI qx120.2 v109 v113 qx120.1) fun G123 =>
          Option.bind (cGetI G123 [11] x0 12) fun v126 =>
          Option.bind (cPutI G123 [11] x0 12 (v126 + 1)) fun G131 =>
          Option.bind (cCast G131 [11] x0) fun u137 =>
          gXb (cm_X3_need x0 59 G131) fun qx137 =>
          cm_X3_fair_J255 k4 x0 qx137.2)
    else
      Option.bind (cGetI qx22.2 [11] x0 15) fun v29 =>
      if v29 = 0 then
        (Option.bind (cPutZ qx22.2 [11] x0 15 1) fun G43 =>
        Option.bind (cCast G43 [11] x0) fun u47 =>
        Option.bind (cm_X3_go x0 G43) fun G47 =>
        Option.bind (cCast G47 [11] x0) fun u56 =>
        gXb (cm_X3_small x0 1 9999 G47) fun qx56 =>
        Option.bind (cPutI qx56.2 [11] x0 14 qx56.1) fun G59 =>
        Option.bind (cCast G59 [11] x0) fun u65 =>
        gXb (cm_X3_need x0 59 G59) fun qx65 =>
        cm_X3_fair_J255 k4 x0 qx65.2)
      else
        Option.bind (cCast qx22.2 [11] x0) fun u37 =>
        Option.bind (cm_X3_wrong x0 4 qx22.2) fun qx37 =>
        cThrowW qx37.2 qx37.1
def cm_X3_fair_L4 : Nat → Nat → GH → Option (GX Unit)
  | 0 => fun _ _ => none
  | n + 1 => cm_X3_fair_B4 (cm_X3_fair_L4 n)
def cm_X3_fair (x0 : Nat) (Gz : GH) : Option (GX Unit) :=
  Option.bind (cCast Gz [11] x0) fun u1 =>
  Option.bind (cm_X3_go x0 Gz) fun G1 =>
  cm_X3_fair_L4 gF x0 G1
