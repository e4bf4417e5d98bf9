/-! the model's methods over its memory: decompiled by mgen.py -/
set_option maxRecDepth 100000
def mm_thrown (M : MM) : Option Int32 :=
  some (M 90 0)
def mm_feed_J76 (k23 : Int32 → Int32 → Int32 → Int32 → Int32 → Int32 → MM → Option (Int32 × MM)) (x1 : Int32) (x2 : Int32) (x3 : Int32) (x4 : Int32) (x5 : Int32) (x6 : Int32) (s0 : Int32) (M : MM) : Option (Int32 × MM) :=
  Option.bind (mAst M 2 ((M 3 0) + x6) ((s0.toUInt32 >>> ((24 - (8 * (x6 - x6 / 4 * 4))).toUInt32 &&& Int32.toUInt32 31)).toInt32 &&& 255)) fun M106 =>
  k23 x1 x2 x3 x4 x5 (x6 + 1) M106
def mm_feed_B23 (k23 : Int32 → Int32 → Int32 → Int32 → Int32 → Int32 → MM → Option (Int32 × MM)) (x1 : Int32) (x2 : Int32) (x3 : Int32) (x4 : Int32) (x5 : Int32) (x6 : Int32) (M : MM) : Option (Int32 × MM) :=
  if 20 ≤ x6 then
    (Option.bind (mPut M 3 ((M 3 0) + 20)) fun M121 =>
    some ((M121 3 0), M121))
  else
    if 4 ≤ x6 then
      (if 8 ≤ x6 then
        (if 12 ≤ x6 then
          (if 16 ≤ x6 then
            (mm_feed_J76 k23 x1 x2 x3 x4 x5 x6 x5 M)
          else
            mm_feed_J76 k23 x1 x2 x3 x4 x5 x6 x4 M)
        else
          mm_feed_J76 k23 x1 x2 x3 x4 x5 x6 x3 M)
      else
        mm_feed_J76 k23 x1 x2 x3 x4 x5 x6 x2 M)
    else
      mm_feed_J76 k23 x1 x2 x3 x4 x5 x6 x1 M
def mm_feed_L23 : Nat → Int32 → Int32 → Int32 → Int32 → Int32 → Int32 → MM → Option (Int32 × MM)
  | 0 => fun _ _ _ _ _ _ _ => none
  | n + 1 => mm_feed_B23 (mm_feed_L23 n)
def mm_feed (x1 : Int32) (x2 : Int32) (x3 : Int32) (x4 : Int32) (x5 : Int32) (M : MM) : Option (Int32 × MM) :=
  Option.bind (mPut M 90 0) fun M2 =>
  if ((M2 3 0) + 20) ≤ 4000 then
    (mm_feed_L23 gF x1 x2 x3 x4 x5 0 M2)
  else
    some ((-1), M2)
def mm_isLetter (x0 : Int32) (M : MM) : Option Int32 :=
  if x0 < 97 then
    (mZr 0 0)
  else
    if 122 < x0 then
      (mZr 0 0)
    else
      mZr 1 1
def mm_byteAt (x1 : Int32) (M : MM) : Option Int32 :=
  if (M 5 0) ≤ x1 then
    (some 0)
  else
    Option.bind (mAld M 4 x1) fun v13 =>
    some v13
def mm_isDigit (x0 : Int32) (M : MM) : Option Int32 :=
  if x0 < 48 then
    (mZr 0 0)
  else
    if 57 < x0 then
      (mZr 0 0)
    else
      mZr 1 1
def mm_readWord_J28 (k0 : MM → Option MM) (M : MM) : Option MM :=
  Option.bind (mPut M 6 ((M 6 0) + 1)) fun M35 =>
  k0 M35
def mm_readWord_J177 (k66 : Int32 → MM → Option MM) (x1 : Int32) (M : MM) : Option MM :=
  k66 (x1 + 1) M
def mm_readWord_J174 (k66 : Int32 → MM → Option MM) (x1 : Int32) (s1 : Int32) (M : MM) : Option MM :=
  Option.bind (mPut M 11 s1) fun M174 =>
  mm_readWord_J177 k66 x1 M174
def mm_readWord_J154 (k66 : Int32 → MM → Option MM) (k108 : Int32 → Int32 → Int32 → MM → Option MM) (x1 : Int32) (x3 : Int32) (s0 : Int32) (M : MM) : Option MM :=
  k108 x1 s0 (x3 + 1) M
def mm_readWord_J153 (k66 : Int32 → MM → Option MM) (k108 : Int32 → Int32 → Int32 → MM → Option MM) (x1 : Int32) (x3 : Int32) (M : MM) : Option MM :=
  mm_readWord_J154 k66 k108 x1 x3 0 M
def mm_readWord_B108 (k66 : Int32 → MM → Option MM) (k108 : Int32 → Int32 → Int32 → MM → Option MM) (x1 : Int32) (x2 : Int32) (x3 : Int32) (M : MM) : Option MM :=
  if ((M 6 0) - (M 8 0)) ≤ x3 then
    (if x2 = 0 then
      (mm_readWord_J174 k66 x1 (M 11 0) M)
    else
      mm_readWord_J174 k66 x1 x1 M)
  else
    if x2 = 0 then
      (mm_readWord_J153 k66 k108 x1 x3 M)
    else
      Option.bind (mWd x1) fun w130 =>
      Option.bind (mWch w130 x3) fun v132 =>
      Option.bind (mAld M 4 ((M 8 0) + x3)) fun v145 =>
      if v132 = v145 then
        (mm_readWord_J154 k66 k108 x1 x3 1 M)
      else
        mm_readWord_J153 k66 k108 x1 x3 M
def mm_readWord_L108 (k66 : Int32 → MM → Option MM) : Nat → Int32 → Int32 → Int32 → MM → Option MM
  | 0 => fun _ _ _ _ => none
  | n + 1 => mm_readWord_B108 k66 (mm_readWord_L108 k66 n)
def mm_readWord_B66 (k66 : Int32 → MM → Option MM) (x1 : Int32) (M : MM) : Option MM :=
  if 51 ≤ x1 then
    (some M)
  else
    if (M 7 0) = 1 then
      (Option.bind (mWd x1) fun w85 =>
      if (mWlen w85) = ((M 6 0) - (M 8 0)) then
        (mm_readWord_L108 k66 gF x1 1 0 M)
      else
        mm_readWord_J177 k66 x1 M)
    else
      some M
def mm_readWord_L66 : Nat → Int32 → MM → Option MM
  | 0 => fun _ _ => none
  | n + 1 => mm_readWord_B66 (mm_readWord_L66 n)
def mm_readWord_J61 (s1 : Int32) (M : MM) : Option MM :=
  Option.bind (mPut M 7 s1) fun M61 =>
  mm_readWord_L66 gF 0 M61
def mm_readWord_B0 (k0 : MM → Option MM) (M : MM) : Option MM :=
  Option.bind (mm_byteAt (M 6 0) M) fun v5 =>
  Option.bind (mm_isLetter v5 M) fun v8 =>
  if v8 = 0 then
    (Option.bind (mm_byteAt (M 6 0) M) fun v19 =>
    Option.bind (mm_isDigit v19 M) fun v22 =>
    if v22 = 0 then
      (if ((M 6 0) - (M 8 0)) ≤ 8 then
        (mm_readWord_J61 1 M)
      else
        mm_readWord_J61 4 M)
    else
      mm_readWord_J28 k0 M)
  else
    mm_readWord_J28 k0 M
def mm_readWord_L0 : Nat → MM → Option MM
  | 0 => fun _ => none
  | n + 1 => mm_readWord_B0 (mm_readWord_L0 n)
def mm_readWord (M : MM) : Option MM :=
  mm_readWord_L0 gF M
def mm_readNumber_J95 (s1 : Int32) (M : MM) : Option MM :=
  Option.bind (mPut M 7 s1) fun M95 =>
  some M95
def mm_readNumber_J60 (k5 : MM → Option MM) (s1 : Int32) (M : MM) : Option MM :=
  Option.bind (mPut M 10 s1) fun M60 =>
  Option.bind (mPut M60 6 ((M60 6 0) + 1)) fun M70 =>
  k5 M70
def mm_readNumber_B5 (k5 : MM → Option MM) (M : MM) : Option MM :=
  Option.bind (mm_byteAt (M 6 0) M) fun v10 =>
  Option.bind (mm_isDigit v10 M) fun v13 =>
  if v13 = 0 then
    (if ((M 6 0) - (M 8 0)) ≤ 4 then
      (mm_readNumber_J95 2 M)
    else
      mm_readNumber_J95 4 M)
  else
    if 4 ≤ ((M 6 0) - (M 8 0)) then
      (mm_readNumber_J60 k5 (M 10 0) M)
    else
      Option.bind (mAld M 4 (M 6 0)) fun v48 =>
      mm_readNumber_J60 k5 (((10 * (M 10 0)) + v48) - 48) M
def mm_readNumber_L5 : Nat → MM → Option MM
  | 0 => fun _ => none
  | n + 1 => mm_readNumber_B5 (mm_readNumber_L5 n)
def mm_readNumber (M : MM) : Option MM :=
  Option.bind (mPut M 10 0) fun M2 =>
  mm_readNumber_L5 gF M2
def mm_readSign_J182 (s1 : Int32) (M : MM) : Option MM :=
  Option.bind (mPut M 10 s1) fun M182 =>
  some M182
def mm_readSign_J165 (x1 : Int32) (x2 : Int32) (s1 : Int32) (M : MM) : Option MM :=
  Option.bind (mPut M 7 s1) fun M165 =>
  if x2 = 0 then
    (mm_readSign_J182 x1 M165)
  else
    mm_readSign_J182 (256 + x1) M165
def mm_readSign_J160 (x1 : Int32) (x2 : Int32) (M : MM) : Option MM :=
  mm_readSign_J165 x1 x2 3 M
def mm_readSign_J150 (x1 : Int32) (x2 : Int32) (s0 : Int32) (M : MM) : Option MM :=
  if s0 = 0 then
    (if x2 = 0 then
      (mm_readSign_J165 x1 x2 4 M)
    else
      mm_readSign_J160 x1 x2 M)
  else
    mm_readSign_J160 x1 x2 M
def mm_readSign_J145 (x1 : Int32) (x2 : Int32) (M : MM) : Option MM :=
  mm_readSign_J150 x1 x2 1 M
def mm_readSign_J67 (x1 : Int32) (x2 : Int32) (M : MM) : Option MM :=
  if x1 = 123 then
    (mm_readSign_J145 x1 x2 M)
  else
    if x1 = 125 then
      (mm_readSign_J145 x1 x2 M)
    else
      if x1 = 40 then
        (mm_readSign_J145 x1 x2 M)
      else
        if x1 = 41 then
          (mm_readSign_J145 x1 x2 M)
        else
          if x1 = 59 then
            (mm_readSign_J145 x1 x2 M)
          else
            if x1 = 46 then
              (mm_readSign_J145 x1 x2 M)
            else
              if x1 = 43 then
                (mm_readSign_J145 x1 x2 M)
              else
                if x1 = 45 then
                  (mm_readSign_J145 x1 x2 M)
                else
                  if x1 = 42 then
                    (mm_readSign_J145 x1 x2 M)
                  else
                    if x1 = 47 then
                      (mm_readSign_J145 x1 x2 M)
                    else
                      if x1 = 60 then
                        (mm_readSign_J145 x1 x2 M)
                      else
                        if x1 = 62 then
                          (mm_readSign_J145 x1 x2 M)
                        else
                          if x1 = 61 then
                            (mm_readSign_J145 x1 x2 M)
                          else
                            mm_readSign_J150 x1 x2 0 M
def mm_readSign_J52 (x1 : Int32) (s0 : Int32) (M : MM) : Option MM :=
  if s0 = 0 then
    (mm_readSign_J67 x1 s0 M)
  else
    Option.bind (mPut M 6 ((M 6 0) + 1)) fun M64 =>
    mm_readSign_J67 x1 s0 M64
def mm_readSign_J51 (x1 : Int32) (M : MM) : Option MM :=
  mm_readSign_J52 x1 0 M
def mm_readSign_J34 (x1 : Int32) (M : MM) : Option MM :=
  Option.bind (mm_byteAt (M 6 0) M) fun v39 =>
  if v39 = 61 then
    (mm_readSign_J52 x1 1 M)
  else
    mm_readSign_J51 x1 M
def mm_readSign (x1 : Int32) (M : MM) : Option MM :=
  Option.bind (mPut M 6 ((M 6 0) + 1)) fun M7 =>
  if x1 = 60 then
    (mm_readSign_J34 x1 M7)
  else
    if x1 = 62 then
      (mm_readSign_J34 x1 M7)
    else
      if x1 = 61 then
        (mm_readSign_J34 x1 M7)
      else
        if x1 = 33 then
          (mm_readSign_J34 x1 M7)
        else
          mm_readSign_J51 x1 M7
def mm_cut_J133 (M : MM) : Option MM :=
  Option.bind (mPut M 9 (M 6 0)) fun M138 =>
  some M138
def mm_cut_J52 (M : MM) : Option MM :=
  Option.bind (mPut M 8 (M 6 0)) fun M57 =>
  Option.bind (mPut M57 11 (-1)) fun M62 =>
  if (M62 6 0) = (M62 5 0) then
    (Option.bind (mPut M62 7 0) fun M78 =>
    Option.bind (mPut M78 9 (M78 6 0)) fun M86 =>
    some M86)
  else
    Option.bind (mAld M62 4 (M62 6 0)) fun v98 =>
    Option.bind (mm_isLetter v98 M62) fun v101 =>
    if v101 = 0 then
      (Option.bind (mm_isDigit v98 M62) fun v115 =>
      if v115 = 0 then
        (Option.bind (mm_readSign v98 M62) fun M130 =>
        mm_cut_J133 M130)
      else
        Option.bind (mm_readNumber M62) fun M122 =>
        mm_cut_J133 M122)
    else
      Option.bind (mm_readWord M62) fun M108 =>
      mm_cut_J133 M108
def mm_cut_J39 (k0 : MM → Option MM) (M : MM) : Option MM :=
  Option.bind (mPut M 6 ((M 6 0) + 1)) fun M46 =>
  k0 M46
def mm_cut_B0 (k0 : MM → Option MM) (M : MM) : Option MM :=
  if (M 5 0) ≤ (M 6 0) then
    (mm_cut_J52 M)
  else
    Option.bind (mAld M 4 (M 6 0)) fun v19 =>
    if v19 = 10 then
      (mm_cut_J39 k0 M)
    else
      Option.bind (mAld M 4 (M 6 0)) fun v33 =>
      if v33 = 32 then
        (mm_cut_J39 k0 M)
      else
        mm_cut_J52 M
def mm_cut_L0 : Nat → MM → Option MM
  | 0 => fun _ => none
  | n + 1 => mm_cut_B0 (mm_cut_L0 n)
def mm_cut (M : MM) : Option MM :=
  mm_cut_L0 gF M
def mm_wrong (x1 : Int32) (x2 : Int32) (M : MM) : Option MM :=
  if (M 12 0) = 0 then
    (Option.bind (mPut M 12 x1) fun M9 =>
    Option.bind (mPut M9 13 x2) fun M14 =>
    some M14)
  else
    some M
def mm_numberIn_J43 (x3 : Int32) (M : MM) : Option (Int32 × MM) :=
  if (M 12 0) = 0 then
    (Option.bind (mm_cut M) fun M51 =>
    some (x3, M51))
  else
    some (x3, M)
def mm_numberIn_J34 (x3 : Int32) (M : MM) : Option (Int32 × MM) :=
  Option.bind (mm_wrong 5 (M 8 0) M) fun M40 =>
  mm_numberIn_J43 x3 M40
def mm_numberIn (x1 : Int32) (x2 : Int32) (M : MM) : Option (Int32 × MM) :=
  if (M 7 0) = 2 then
    (if (M 10 0) < x1 then
      (mm_numberIn_J34 (M 10 0) M)
    else
      if (M 10 0) ≤ x2 then
        (mm_numberIn_J43 (M 10 0) M)
      else
        mm_numberIn_J34 (M 10 0) M)
  else
    Option.bind (mm_wrong 1 (M 8 0) M) fun M14 =>
    some (0, M14)
def mm_known_J97 (k5 : Int32 → Int32 → Int32 → Int32 → MM → Option Int32) (x1 : Int32) (x2 : Int32) (x4 : Int32) (s0 : Int32) (M : MM) : Option Int32 :=
  k5 x1 x2 s0 (x4 + 1) M
def mm_known_J86 (k5 : Int32 → Int32 → Int32 → Int32 → MM → Option Int32) (x1 : Int32) (x2 : Int32) (x3 : Int32) (x4 : Int32) (x5 : Int32) (M : MM) : Option Int32 :=
  if x5 = 0 then
    (mm_known_J97 k5 x1 x2 x4 x3 M)
  else
    mm_known_J97 k5 x1 x2 x4 x4 M
def mm_known_J78 (k5 : Int32 → Int32 → Int32 → Int32 → MM → Option Int32) (k35 : Int32 → Int32 → Int32 → Int32 → Int32 → Int32 → MM → Option Int32) (x1 : Int32) (x2 : Int32) (x3 : Int32) (x4 : Int32) (x6 : Int32) (s0 : Int32) (M : MM) : Option Int32 :=
  k35 x1 x2 x3 x4 s0 (x6 + 1) M
def mm_known_B35 (k5 : Int32 → Int32 → Int32 → Int32 → MM → Option Int32) (k35 : Int32 → Int32 → Int32 → Int32 → Int32 → Int32 → MM → Option Int32) (x1 : Int32) (x2 : Int32) (x3 : Int32) (x4 : Int32) (x5 : Int32) (x6 : Int32) (M : MM) : Option Int32 :=
  if x2 ≤ x6 then
    (mm_known_J86 k5 x1 x2 x3 x4 x5 M)
  else
    if x5 = 0 then
      (mm_known_J86 k5 x1 x2 x3 x4 x5 M)
    else
      Option.bind (mAld M 16 x4) fun v56 =>
      Option.bind (mAld M 4 (v56 + x6)) fun v60 =>
      Option.bind (mAld M 4 (x1 + x6)) fun v69 =>
      if v60 = v69 then
        (mm_known_J78 k5 k35 x1 x2 x3 x4 x6 1 M)
      else
        mm_known_J78 k5 k35 x1 x2 x3 x4 x6 0 M
def mm_known_L35 (k5 : Int32 → Int32 → Int32 → Int32 → MM → Option Int32) : Nat → Int32 → Int32 → Int32 → Int32 → Int32 → Int32 → MM → Option Int32
  | 0 => fun _ _ _ _ _ _ _ => none
  | n + 1 => mm_known_B35 k5 (mm_known_L35 k5 n)
def mm_known_J30 (k5 : Int32 → Int32 → Int32 → Int32 → MM → Option Int32) (x1 : Int32) (x2 : Int32) (x3 : Int32) (x4 : Int32) (s0 : Int32) (M : MM) : Option Int32 :=
  mm_known_L35 k5 gF x1 x2 x3 x4 s0 0 M
def mm_known_B5 (k5 : Int32 → Int32 → Int32 → Int32 → MM → Option Int32) (x1 : Int32) (x2 : Int32) (x3 : Int32) (x4 : Int32) (M : MM) : Option Int32 :=
  if (M 18 0) ≤ x4 then
    (some x3)
  else
    Option.bind (mAld M 17 x4) fun v20 =>
    if v20 = x2 then
      (mm_known_J30 k5 x1 x2 x3 x4 1 M)
    else
      mm_known_J30 k5 x1 x2 x3 x4 0 M
def mm_known_L5 : Nat → Int32 → Int32 → Int32 → Int32 → MM → Option Int32
  | 0 => fun _ _ _ _ _ => none
  | n + 1 => mm_known_B5 (mm_known_L5 n)
def mm_known (x1 : Int32) (x2 : Int32) (M : MM) : Option Int32 :=
  mm_known_L5 gF x1 x2 (-1) 0 M
def mm_newName_J58 (x1 : Int32) (x2 : Int32) (M : MM) : Option (Int32 × MM) :=
  if (M 12 0) = 0 then
    (Option.bind (mAst M 14 (M 18 0) x1) fun M76 =>
    Option.bind (mAst M76 15 (M76 18 0) x2) fun M86 =>
    Option.bind (mAst M86 16 (M86 18 0) (M86 8 0)) fun M99 =>
    Option.bind (mAst M99 17 (M99 18 0) ((M99 9 0) - (M99 8 0))) fun M117 =>
    Option.bind (mPut M117 18 ((M117 18 0) + 1)) fun M125 =>
    Option.bind (mm_cut M125) fun M129 =>
    mZr 1 (1, M129))
  else
    mZr 0 (0, M)
def mm_newName_J49 (x1 : Int32) (x2 : Int32) (M : MM) : Option (Int32 × MM) :=
  Option.bind (mm_wrong 2 (M 8 0) M) fun M55 =>
  mm_newName_J58 x1 x2 M55
def mm_newName (x1 : Int32) (x2 : Int32) (M : MM) : Option (Int32 × MM) :=
  if (M 7 0) = 1 then
    (if (M 11 0) = (-1) then
      (Option.bind (mm_known (M 8 0) ((M 9 0) - (M 8 0)) M) fun v42 =>
      if v42 = (-1) then
        (mm_newName_J58 x1 x2 M)
      else
        mm_newName_J49 x1 x2 M)
    else
      mm_newName_J49 x1 x2 M)
  else
    Option.bind (mm_wrong 1 (M 8 0) M) fun M14 =>
    mm_newName_J58 x1 x2 M14
def mm_oldName_J64 (M : MM) : Option (Int32 × MM) :=
  Option.bind (mm_wrong 3 (M 8 0) M) fun M70 =>
  some ((-1), M70)
def mm_oldName_J48 (x1 : Int32) (s0 : Int32) (M : MM) : Option (Int32 × MM) :=
  if s0 = (-1) then
    (mm_oldName_J64 M)
  else
    Option.bind (mAld M 14 s0) fun v59 =>
    if v59 = x1 then
      (Option.bind (mm_cut M) fun M76 =>
      Option.bind (mAld M76 15 s0) fun v84 =>
      some (v84, M76))
    else
      mm_oldName_J64 M
def mm_oldName (x1 : Int32) (M : MM) : Option (Int32 × MM) :=
  if (M 7 0) = 1 then
    (if (M 11 0) = (-1) then
      (Option.bind (mm_known (M 8 0) ((M 9 0) - (M 8 0)) M) fun v45 =>
      mm_oldName_J48 x1 v45 M)
    else
      mm_oldName_J48 x1 (-1) M)
  else
    Option.bind (mm_wrong 1 (M 8 0) M) fun M14 =>
    some ((-1), M14)
def mm_lead_J69 (x1 : Int32) (x3 : Int32) (M : MM) : Option MM :=
  Option.bind (mAst M 26 x1 x3) fun M75 =>
  some M75
def mm_lead_J63 (x1 : Int32) (x2 : Int32) (x3 : Int32) (M : MM) : Option MM :=
  Option.bind (mm_wrong 5 x2 M) fun M66 =>
  mm_lead_J69 x1 x3 M66
def mm_lead_J29 (x1 : Int32) (x2 : Int32) (x3 : Int32) (M : MM) : Option MM :=
  if (M 12 0) = 0 then
    (Option.bind (mAld M 25 x3) fun v45 =>
    Option.bind (mAld M 1 v45) fun v46 =>
    if (v46 &&& 1) = 0 then
      (mm_lead_J63 x1 x2 x3 M)
    else
      Option.bind (mAld M 25 x3) fun v57 =>
      if v57 = 8 then
        (mm_lead_J63 x1 x2 x3 M)
      else
        mm_lead_J69 x1 x3 M)
  else
    mm_lead_J69 x1 x3 M
def mm_lead (x1 : Int32) (M : MM) : Option MM :=
  Option.bind (mm_oldName 3 M) fun q7 =>
  if (q7.2 12 0) = 0 then
    (if q7.1 = x1 then
      (Option.bind (mm_wrong 3 (M 8 0) q7.2) fun M26 =>
      mm_lead_J29 x1 (M 8 0) q7.1 M26)
    else
      mm_lead_J29 x1 (M 8 0) q7.1 q7.2)
  else
    mm_lead_J29 x1 (M 8 0) q7.1 q7.2
def mm_isSign (x1 : Int32) (M : MM) : Option Int32 :=
  if (M 7 0) = 3 then
    (if (M 10 0) = x1 then
      (mZr 1 1)
    else
      mZr 0 0)
  else
    mZr 0 0
def mm_isStep_J23 (M : MM) : Option Int32 :=
  mZr 1 1
def mm_isStep_J11 (x0 : Int32) (M : MM) : Option Int32 :=
  if x0 < 41 then
    (mZr 0 0)
  else
    if 44 < x0 then
      (mZr 0 0)
    else
      mm_isStep_J23 M
def mm_isStep (x0 : Int32) (M : MM) : Option Int32 :=
  if x0 < 4 then
    (mm_isStep_J11 x0 M)
  else
    if x0 ≤ 22 then
      (mm_isStep_J23 M)
    else
      mm_isStep_J11 x0 M
def mm_fits (x1 : Int32) (M : MM) : Option Int32 :=
  Option.bind (mAld M 25 (M 52 0)) fun v12 =>
  Option.bind (mAld M 1 v12) fun v13 =>
  if x1 = 4 then
    (if (v13 &&& 1) = 0 then
      (mZr 0 0)
    else
      Option.bind (mAld M 25 (M 52 0)) fun v118 =>
      if v118 = 8 then
        (mZr 0 0)
      else
        mZr 1 1)
  else
  if x1 = 5 then
    (if (v13 &&& 2) = 0 then
      (mZr 0 0)
    else
      mZr 1 1)
  else
  if x1 = 6 then
    (if (v13 &&& 8) = 0 then
      (mZr 0 0)
    else
      mZr 1 1)
  else
  if x1 = 7 then
    (if (v13 &&& 16) = 0 then
      (mZr 0 0)
    else
      mZr 1 1)
  else
  if x1 = 8 then
    (if (v13 &&& 4) = 0 then
      (mZr 0 0)
    else
      mZr 1 1)
  else
  if x1 = 9 then
    (if (v13 &&& 4) = 0 then
      (mZr 0 0)
    else
      mZr 1 1)
  else
  if x1 = 10 then
    (mZr 1 1)
  else
  if x1 = 11 then
    (mZr 1 1)
  else
  if x1 = 12 then
    (mZr 1 1)
  else
  if x1 = 13 then
    (mZr 1 1)
  else
  if x1 = 14 then
    (mZr 1 1)
  else
  if x1 = 15 then
    (mZr 1 1)
  else
  if x1 = 16 then
    (mZr 1 1)
  else
  if x1 = 17 then
    (mZr 1 1)
  else
  if x1 = 18 then
    (mZr 1 1)
  else
  if x1 = 19 then
    (mZr 1 1)
  else
  if x1 = 20 then
    (mZr 1 1)
  else
  if x1 = 21 then
    (if (M 54 0) = (-1) then
      (mZr 0 0)
    else
      mZr 1 1)
  else
    mZr 1 1
def mm_newCode (x1 : Int32) (x2 : Int32) (x3 : Int32) (M : MM) : Option MM :=
  Option.bind (mAst M 42 (M 45 0) x1) fun M9 =>
  Option.bind (mAst M9 43 (M9 45 0) x2) fun M19 =>
  Option.bind (mAst M19 44 (M19 45 0) x3) fun M29 =>
  Option.bind (mPut M29 45 ((M29 45 0) + 1)) fun M37 =>
  some M37
def mm_need_J24 (M : MM) : Option (Int32 × MM) :=
  if (M 12 0) = 0 then
    (mZr 1 (1, M))
  else
    mZr 0 (0, M)
def mm_need (x1 : Int32) (M : MM) : Option (Int32 × MM) :=
  Option.bind (mm_isSign x1 M) fun v2 =>
  if v2 = 0 then
    (Option.bind (mm_wrong 1 (M 8 0) M) fun M14 =>
    mm_need_J24 M14)
  else
    Option.bind (mm_cut M) fun M21 =>
    mm_need_J24 M21
def mm_measureOf (M : MM) : Option Int32 :=
  if (M 7 0) = 1 then
    (if (M 11 0) = 6 then
      (some 3)
    else
    if (M 11 0) = 35 then
      (some 6)
    else
    if (M 11 0) = 36 then
      (some 0)
    else
    if (M 11 0) = 37 then
      (some 1)
    else
    if (M 11 0) = 38 then
      (some 2)
    else
    if (M 11 0) = 39 then
      (some 4)
    else
    if (M 11 0) = 40 then
      (some 5)
    else
      some (-1))
  else
    some (-1)
def mm_wordFactor_J158 (M : MM) : Option MM :=
  Option.bind (mm_cut M) fun M177 =>
  Option.bind (mm_need 46 M177) fun q183 =>
  if q183.1 = 0 then
    (some q183.2)
  else
    Option.bind (mm_measureOf q183.2) fun v191 =>
    if v191 = (-1) then
      (Option.bind (mm_wrong 1 (q183.2 8 0) q183.2) fun M206 =>
      some M206)
    else
      Option.bind (mm_newCode 7 (((16 * (M 8 0)) + (M 9 0)) - (M 8 0)) v191 q183.2) fun M215 =>
      Option.bind (mm_cut M215) fun M219 =>
      some M219
def mm_wordFactor_J97 (M : MM) : Option MM :=
  if (M 11 0) = (-1) then
    (Option.bind (mm_known (M 8 0) ((M 9 0) - (M 8 0)) M) fun v129 =>
    if v129 = (-1) then
      (mm_wordFactor_J158 M)
    else
      Option.bind (mAld M 14 v129) fun v143 =>
      if v143 = 3 then
        (mm_wordFactor_J158 M)
      else
        Option.bind (mm_wrong 3 (M 8 0) M) fun M154 =>
        some M154)
  else
    Option.bind (mm_wrong 1 (M 8 0) M) fun M111 =>
    some M111
def mm_wordFactor_J61 (M : MM) : Option MM :=
  if (M 11 0) < 41 then
    (mm_wordFactor_J97 M)
  else
    if 44 < (M 11 0) then
      (mm_wordFactor_J97 M)
    else
      Option.bind (mm_newCode 2 ((M 11 0) - 41) 0 M) fun M89 =>
      Option.bind (mm_cut M89) fun M93 =>
      some M93
def mm_wordFactor (M : MM) : Option MM :=
  Option.bind (mm_measureOf M) fun v1 =>
  if v1 = (-1) then
    (if (M 11 0) < 32 then
      (mm_wordFactor_J61 M)
    else
      if 34 < (M 11 0) then
        (mm_wordFactor_J61 M)
      else
        Option.bind (mm_newCode ((3 + (M 11 0)) - 32) 0 0 M) fun M53 =>
        Option.bind (mm_cut M53) fun M57 =>
        some M57)
  else
    Option.bind (mm_newCode 6 v1 0 M) fun M15 =>
    Option.bind (mm_cut M15) fun M19 =>
    some M19
def mm_sum_J45 (rc : (MM → Option MM) × (MM → Option MM) × (MM → Option MM)) (k4 : MM → Option MM) (s0 : Int32) (M : MM) : Option MM :=
  Option.bind (mm_cut M) fun M47 =>
  Option.bind (rc.2.1 M47) fun M51 =>
  Option.bind (mm_newCode s0 0 0 M51) fun M58 =>
  k4 M58
def mm_sum_J29 (rc : (MM → Option MM) × (MM → Option MM) × (MM → Option MM)) (k4 : MM → Option MM) (M : MM) : Option MM :=
  Option.bind (mm_isSign 43 M) fun v32 =>
  if v32 = 0 then
    (mm_sum_J45 rc k4 10 M)
  else
    mm_sum_J45 rc k4 9 M
def mm_sum_B4 (rc : (MM → Option MM) × (MM → Option MM) × (MM → Option MM)) (k4 : MM → Option MM) (M : MM) : Option MM :=
  if (M 12 0) = 0 then
    (Option.bind (mm_isSign 43 M) fun v14 =>
    if v14 = 0 then
      (Option.bind (mm_isSign 45 M) fun v23 =>
      if v23 = 0 then
        (some M)
      else
        mm_sum_J29 rc k4 M)
    else
      mm_sum_J29 rc k4 M)
  else
    some M
def mm_sum_L4 (rc : (MM → Option MM) × (MM → Option MM) × (MM → Option MM)) : Nat → MM → Option MM
  | 0 => fun _ => none
  | n + 1 => mm_sum_B4 rc (mm_sum_L4 rc n)
def mm_sum_B (rc : (MM → Option MM) × (MM → Option MM) × (MM → Option MM)) (M : MM) : Option MM :=
  Option.bind (rc.2.1 M) fun M1 =>
  mm_sum_L4 rc gF M1
def mm_product_J45 (rc : (MM → Option MM) × (MM → Option MM) × (MM → Option MM)) (k4 : MM → Option MM) (s0 : Int32) (M : MM) : Option MM :=
  Option.bind (mm_cut M) fun M47 =>
  Option.bind (rc.2.2 M47) fun M51 =>
  Option.bind (mm_newCode s0 0 0 M51) fun M58 =>
  k4 M58
def mm_product_J29 (rc : (MM → Option MM) × (MM → Option MM) × (MM → Option MM)) (k4 : MM → Option MM) (M : MM) : Option MM :=
  Option.bind (mm_isSign 42 M) fun v32 =>
  if v32 = 0 then
    (mm_product_J45 rc k4 12 M)
  else
    mm_product_J45 rc k4 11 M
def mm_product_B4 (rc : (MM → Option MM) × (MM → Option MM) × (MM → Option MM)) (k4 : MM → Option MM) (M : MM) : Option MM :=
  if (M 12 0) = 0 then
    (Option.bind (mm_isSign 42 M) fun v14 =>
    if v14 = 0 then
      (Option.bind (mm_isSign 47 M) fun v23 =>
      if v23 = 0 then
        (some M)
      else
        mm_product_J29 rc k4 M)
    else
      mm_product_J29 rc k4 M)
  else
    some M
def mm_product_L4 (rc : (MM → Option MM) × (MM → Option MM) × (MM → Option MM)) : Nat → MM → Option MM
  | 0 => fun _ => none
  | n + 1 => mm_product_B4 rc (mm_product_L4 rc n)
def mm_product_B (rc : (MM → Option MM) × (MM → Option MM) × (MM → Option MM)) (M : MM) : Option MM :=
  Option.bind (rc.2.2 M) fun M1 =>
  mm_product_L4 rc gF M1
def mm_factor_J95 (rc : (MM → Option MM) × (MM → Option MM) × (MM → Option MM)) (M : MM) : Option MM :=
  Option.bind (mPut M 55 ((M 55 0) - 1)) fun M102 =>
  some M102
def mm_factor_J18 (rc : (MM → Option MM) × (MM → Option MM) × (MM → Option MM)) (M : MM) : Option MM :=
  if (M 55 0) = 12 then
    (Option.bind (mm_wrong 4 (M 8 0) M) fun M33 =>
    some M33)
  else
    Option.bind (mm_isSign 45 M) fun v40 =>
    Option.bind (mPut M 55 ((M 55 0) + 1)) fun M51 =>
    Option.bind (mm_cut M51) fun M55 =>
    if v40 = 0 then
      (Option.bind (rc.1 M55) fun M78 =>
      if (M78 12 0) = 0 then
        (Option.bind (mm_need 41 M78) fun q91 =>
        mm_factor_J95 rc q91.2)
      else
        mm_factor_J95 rc M78)
    else
      Option.bind (rc.2.2 M55) fun M63 =>
      Option.bind (mm_newCode 8 0 0 M63) fun M71 =>
      mm_factor_J95 rc M71
def mm_factor_B (rc : (MM → Option MM) × (MM → Option MM) × (MM → Option MM)) (M : MM) : Option MM :=
  Option.bind (mm_isSign 45 M) fun v3 =>
  if v3 = 0 then
    (Option.bind (mm_isSign 40 M) fun v12 =>
    if v12 = 0 then
      (if (M 7 0) = 2 then
        (Option.bind (mm_newCode 1 (M 10 0) 0 M) fun M121 =>
        Option.bind (mm_cut M121) fun M125 =>
        some M125)
      else
        if (M 7 0) = 1 then
          (Option.bind (mm_wordFactor M) fun M140 =>
          some M140)
        else
          Option.bind (mm_wrong 1 (M 8 0) M) fun M152 =>
          some M152)
    else
      mm_factor_J18 rc M)
  else
    mm_factor_J18 rc M
def mm_S22 : Nat → (MM → Option MM) × (MM → Option MM) × (MM → Option MM)
  | 0 => (fun _ => none, fun _ => none, fun _ => none)
  | d + 1 => (mm_sum_B (mm_S22 d), mm_product_B (mm_S22 d), mm_factor_B (mm_S22 d))
def mm_sum (d : Nat) : MM → Option MM := (mm_S22 d).1
def mm_product (d : Nat) : MM → Option MM := (mm_S22 d).2.1
def mm_factor (d : Nat) : MM → Option MM := (mm_S22 d).2.2
def mm_expression (M : MM) : Option (Int32 × MM) :=
  Option.bind (mPut M 55 0) fun M7 =>
  Option.bind (mm_sum 60 M7) fun M11 =>
  Option.bind (mm_newCode 0 0 0 M11) fun M18 =>
  some ((M 45 0), M18)
def mm_newOp (x1 : Int32) (x2 : Int32) (x3 : Int32) (x4 : Int32) (x5 : Int32) (x6 : Int32) (M : MM) : Option (Int32 × MM) :=
  Option.bind (mAst M 35 (M 41 0) x1) fun M9 =>
  Option.bind (mAst M9 36 (M9 41 0) x2) fun M19 =>
  Option.bind (mAst M19 37 (M19 41 0) x3) fun M29 =>
  Option.bind (mAst M29 38 (M29 41 0) x4) fun M40 =>
  Option.bind (mAst M40 39 (M40 41 0) x5) fun M51 =>
  Option.bind (mAst M51 40 (M51 41 0) x6) fun M62 =>
  Option.bind (mPut M62 41 ((M62 41 0) + 1)) fun M70 =>
  some (((M70 41 0) - 1), M70)
def mm_isWord (x1 : Int32) (M : MM) : Option Int32 :=
  if (M 7 0) = 1 then
    (if (M 11 0) = x1 then
      (mZr 1 1)
    else
      mZr 0 0)
  else
    mZr 0 0
def mm_question_J171 (x1 : Int32) (x2 : Int32) (x3 : Int32) (x4 : Int32) (M : MM) : Option MM :=
  Option.bind (mAst M 46 (M 51 0) (x1 - x1 / 2 * 2)) fun M182 =>
  Option.bind (mAst M182 47 (M182 51 0) x4) fun M193 =>
  Option.bind (mAst M193 48 (M193 51 0) x2) fun M203 =>
  Option.bind (mAst M203 49 (M203 51 0) x3) fun M213 =>
  Option.bind (mAst M213 50 (M213 51 0) (-1)) fun M223 =>
  Option.bind (mPut M223 51 ((M223 51 0) + 1)) fun M231 =>
  some M231
def mm_question_J154 (x1 : Int32) (x2 : Int32) (x4 : Int32) (M : MM) : Option MM :=
  if (M 12 0) = 0 then
    (Option.bind (mm_cut M) fun M163 =>
    Option.bind (mm_expression M163) fun q167 =>
    mm_question_J171 x1 x2 q167.1 x4 q167.2)
  else
    some M
def mm_question_J138 (x1 : Int32) (x2 : Int32) (x4 : Int32) (s0 : Int32) (M : MM) : Option MM :=
  if s0 = 0 then
    (Option.bind (mm_wrong 1 (M 8 0) M) fun M151 =>
    mm_question_J154 x1 x2 x4 M151)
  else
    mm_question_J154 x1 x2 x4 M
def mm_question_J133 (x1 : Int32) (x2 : Int32) (x4 : Int32) (M : MM) : Option MM :=
  mm_question_J138 x1 x2 x4 1 M
def mm_question_J85 (x1 : Int32) (x2 : Int32) (s0 : Int32) (M : MM) : Option MM :=
  if s0 = 60 then
    (mm_question_J133 x1 x2 s0 M)
  else
    if s0 = 62 then
      (mm_question_J133 x1 x2 s0 M)
    else
      if s0 = 316 then
        (mm_question_J133 x1 x2 s0 M)
      else
        if s0 = 318 then
          (mm_question_J133 x1 x2 s0 M)
        else
          if s0 = 317 then
            (mm_question_J133 x1 x2 s0 M)
          else
            if s0 = 289 then
              (mm_question_J133 x1 x2 s0 M)
            else
              mm_question_J138 x1 x2 s0 0 M
def mm_question_B2 (k2 : Int32 → MM → Option MM) (x1 : Int32) (M : MM) : Option MM :=
  Option.bind (mm_isWord 50 M) fun v5 =>
  if v5 = 0 then
    (Option.bind (mm_isWord 47 M) fun v45 =>
    if v45 = 0 then
      (Option.bind (mm_expression M) fun q65 =>
      if (q65.2 7 0) = 3 then
        (mm_question_J85 x1 q65.1 (q65.2 10 0) q65.2)
      else
        mm_question_J85 x1 q65.1 0 q65.2)
    else
      Option.bind (mm_cut M) fun M52 =>
      Option.bind (mm_oldName 2 M52) fun q57 =>
      mm_question_J171 x1 q57.1 0 0 q57.2)
  else
    if x1 = 12 then
      (Option.bind (mm_wrong 4 (M 8 0) M) fun M23 =>
      some M23)
    else
      Option.bind (mm_cut M) fun M31 =>
      k2 (x1 + 1) M31
def mm_question_L2 : Nat → Int32 → MM → Option MM
  | 0 => fun _ _ => none
  | n + 1 => mm_question_B2 (mm_question_L2 n)
def mm_question (M : MM) : Option MM :=
  mm_question_L2 gF 0 M
def mm_condition_B26 (k26 : Int32 → Int32 → MM → Option (Int32 × MM)) (x1 : Int32) (x2 : Int32) (M : MM) : Option (Int32 × MM) :=
  if (M 12 0) = 0 then
    (Option.bind (mm_isWord x2 M) fun v35 =>
    if v35 = 0 then
      (some (x1, M))
    else
      Option.bind (mAst M 50 ((M 51 0) - 1) x2) fun M52 =>
      Option.bind (mm_cut M52) fun M54 =>
      Option.bind (mm_question M54) fun M58 =>
      k26 x1 x2 M58)
  else
    some (x1, M)
def mm_condition_L26 : Nat → Int32 → Int32 → MM → Option (Int32 × MM)
  | 0 => fun _ _ _ => none
  | n + 1 => mm_condition_B26 (mm_condition_L26 n)
def mm_condition_J25 (x1 : Int32) (s0 : Int32) (M : MM) : Option (Int32 × MM) :=
  mm_condition_L26 gF x1 s0 M
def mm_condition (M : MM) : Option (Int32 × MM) :=
  Option.bind (mm_question M) fun M6 =>
  Option.bind (mm_isWord 48 M6) fun v12 =>
  if v12 = 0 then
    (mm_condition_J25 (M 51 0) 49 M6)
  else
    mm_condition_J25 (M 51 0) 48 M6
def mm_block_J85 (rc : (Int32 → Int32 → MM → Option (Int32 × MM)) × (Int32 → Int32 → MM → Option MM) × (Int32 → Int32 → Int32 → Int32 → MM → Option MM)) (M : MM) : Option (Int32 × MM) :=
  if (M 12 0) = 0 then
    (mZr 1 (1, M))
  else
    mZr 0 (0, M)
def mm_block_J74 (rc : (Int32 → Int32 → MM → Option (Int32 × MM)) × (Int32 → Int32 → MM → Option MM) × (Int32 → Int32 → Int32 → Int32 → MM → Option MM)) (M : MM) : Option (Int32 × MM) :=
  if (M 12 0) = 0 then
    (Option.bind (mm_cut M) fun M82 =>
    mm_block_J85 rc M82)
  else
    mm_block_J85 rc M
def mm_block_B49 (rc : (Int32 → Int32 → MM → Option (Int32 × MM)) × (Int32 → Int32 → MM → Option MM) × (Int32 → Int32 → Int32 → Int32 → MM → Option MM)) (k49 : Int32 → Int32 → MM → Option (Int32 × MM)) (x1 : Int32) (x2 : Int32) (M : MM) : Option (Int32 × MM) :=
  if (M 12 0) = 0 then
    (Option.bind (mm_isSign 125 M) fun v59 =>
    if v59 = 0 then
      (Option.bind (rc.2.1 x1 x2 M) fun M68 =>
      k49 x1 x2 M68)
    else
      mm_block_J74 rc M)
  else
    mm_block_J74 rc M
def mm_block_L49 (rc : (Int32 → Int32 → MM → Option (Int32 × MM)) × (Int32 → Int32 → MM → Option MM) × (Int32 → Int32 → Int32 → Int32 → MM → Option MM)) : Nat → Int32 → Int32 → MM → Option (Int32 × MM)
  | 0 => fun _ _ _ => none
  | n + 1 => mm_block_B49 rc (mm_block_L49 rc n)
def mm_block_J36 (rc : (Int32 → Int32 → MM → Option (Int32 × MM)) × (Int32 → Int32 → MM → Option MM) × (Int32 → Int32 → Int32 → Int32 → MM → Option MM)) (x1 : Int32) (x2 : Int32) (M : MM) : Option (Int32 × MM) :=
  if (M 12 0) = 0 then
    (Option.bind (mm_cut M) fun M46 =>
    mm_block_L49 rc gF x1 x2 M46)
  else
    mZr 0 (0, M)
def mm_block_B (rc : (Int32 → Int32 → MM → Option (Int32 × MM)) × (Int32 → Int32 → MM → Option MM) × (Int32 → Int32 → Int32 → Int32 → MM → Option MM)) (x1 : Int32) (x2 : Int32) (M : MM) : Option (Int32 × MM) :=
  Option.bind (mm_isSign 123 M) fun v3 =>
  if v3 = 0 then
    (Option.bind (mm_wrong 1 (M 8 0) M) fun M15 =>
    mm_block_J36 rc x1 x2 M15)
  else
    if x1 ≤ 10 then
      (mm_block_J36 rc x1 x2 M)
    else
      Option.bind (mm_wrong 4 (M 8 0) M) fun M33 =>
      mm_block_J36 rc x1 x2 M33
def mm_step_J315 (rc : (Int32 → Int32 → MM → Option (Int32 × MM)) × (Int32 → Int32 → MM → Option MM) × (Int32 → Int32 → Int32 → Int32 → MM → Option MM)) (M : MM) : Option MM :=
  if (M 12 0) = 0 then
    (Option.bind (mm_need 59 M) fun q325 =>
    some q325.2)
  else
    some M
def mm_step_J194 (rc : (Int32 → Int32 → MM → Option (Int32 × MM)) × (Int32 → Int32 → MM → Option MM) × (Int32 → Int32 → Int32 → Int32 → MM → Option MM)) (x2 : Int32) (x3 : Int32) (x4 : Int32) (M : MM) : Option MM :=
  Option.bind (mm_oldName 1 M) fun q200 =>
  Option.bind (mm_newOp x4 x3 q200.1 0 0 x2 q200.2) fun q206 =>
  mm_step_J315 rc q206.2
def mm_step_J227 (rc : (Int32 → Int32 → MM → Option (Int32 × MM)) × (Int32 → Int32 → MM → Option MM) × (Int32 → Int32 → Int32 → Int32 → MM → Option MM)) (x2 : Int32) (x3 : Int32) (x4 : Int32) (M : MM) : Option MM :=
  Option.bind (mm_oldName 2 M) fun q233 =>
  Option.bind (mm_newOp x4 x3 q233.1 0 0 x2 q233.2) fun q239 =>
  mm_step_J315 rc q239.2
def mm_step_J285 (rc : (Int32 → Int32 → MM → Option (Int32 × MM)) × (Int32 → Int32 → MM → Option MM) × (Int32 → Int32 → Int32 → Int32 → MM → Option MM)) (x2 : Int32) (x3 : Int32) (x4 : Int32) (M : MM) : Option MM :=
  Option.bind (mm_newOp x4 x3 0 0 0 x2 M) fun q293 =>
  mm_step_J315 rc q293.2
def mm_step_J116 (rc : (Int32 → Int32 → MM → Option (Int32 × MM)) × (Int32 → Int32 → MM → Option MM) × (Int32 → Int32 → Int32 → Int32 → MM → Option MM)) (x2 : Int32) (x3 : Int32) (x4 : Int32) (M : MM) : Option MM :=
  if x4 < 41 then
    (if x4 = 12 then
      (Option.bind (mm_condition M) fun q167 =>
      Option.bind (mm_newOp x4 x3 q167.1 0 0 x2 q167.2) fun q173 =>
      mm_step_J315 rc q173.2)
    else
      if x4 = 13 then
        (mm_step_J194 rc x2 x3 x4 M)
      else
        if x4 = 14 then
          (mm_step_J194 rc x2 x3 x4 M)
        else
          if x4 = 15 then
            (mm_step_J227 rc x2 x3 x4 M)
          else
            if x4 = 16 then
              (mm_step_J227 rc x2 x3 x4 M)
            else
              if x4 = 21 then
                (Option.bind (mm_newOp x4 x3 (M 54 0) 0 0 x2 M) fun q264 =>
                mm_step_J315 rc q264.2)
              else
                if x4 = 9 then
                  (mm_step_J285 rc x2 x3 x4 M)
                else
                  if x4 = 22 then
                    (mm_step_J285 rc x2 x3 x4 M)
                  else
                    Option.bind (mm_expression M) fun q305 =>
                    Option.bind (mm_newOp x4 x3 q305.1 0 0 x2 q305.2) fun q311 =>
                    mm_step_J315 rc q311.2)
  else
    Option.bind (mm_need 61 M) fun q126 =>
    if q126.1 = 0 then
      (some q126.2)
    else
      Option.bind (mm_expression q126.2) fun q138 =>
      Option.bind (mm_newOp 50 x3 q138.1 (x4 - 41) 0 x2 q138.2) fun q148 =>
      mm_step_J315 rc q148.2
def mm_step_J70 (rc : (Int32 → Int32 → MM → Option (Int32 × MM)) × (Int32 → Int32 → MM → Option MM) × (Int32 → Int32 → Int32 → Int32 → MM → Option MM)) (x1 : Int32) (x2 : Int32) (x3 : Int32) (x4 : Int32) (M : MM) : Option MM :=
  if (M 12 0) = 0 then
    (Option.bind (mPut M 53 ((M 53 0) + 1)) fun M85 =>
    Option.bind (mm_cut M85) fun M89 =>
    if x4 < 17 then
      (mm_step_J116 rc x2 x3 x4 M89)
    else
      if 20 < x4 then
        (mm_step_J116 rc x2 x3 x4 M89)
      else
        Option.bind (rc.2.2 x4 x3 x1 x2 M89) fun M112 =>
        some M112)
  else
    some M
def mm_step_J27 (rc : (Int32 → Int32 → MM → Option (Int32 × MM)) × (Int32 → Int32 → MM → Option MM) × (Int32 → Int32 → Int32 → Int32 → MM → Option MM)) (x1 : Int32) (x2 : Int32) (x3 : Int32) (x4 : Int32) (M : MM) : Option MM :=
  Option.bind (mm_wrong 1 x3 M) fun M30 =>
  mm_step_J70 rc x1 x2 x3 x4 M30
def mm_step_B (rc : (Int32 → Int32 → MM → Option (Int32 × MM)) × (Int32 → Int32 → MM → Option MM) × (Int32 → Int32 → Int32 → Int32 → MM → Option MM)) (x1 : Int32) (x2 : Int32) (M : MM) : Option MM :=
  if (M 7 0) = 1 then
    (Option.bind (mm_isStep (M 11 0) M) fun v21 =>
    if v21 = 0 then
      (mm_step_J27 rc x1 x2 (M 8 0) (M 11 0) M)
    else
      if (M 53 0) = 150 then
        (Option.bind (mm_wrong 4 (M 8 0) M) fun M49 =>
        mm_step_J70 rc x1 x2 (M 8 0) (M 11 0) M49)
      else
        Option.bind (mm_fits (M 11 0) M) fun v58 =>
        if v58 = 0 then
          (Option.bind (mm_wrong 5 (M 8 0) M) fun M67 =>
          mm_step_J70 rc x1 x2 (M 8 0) (M 11 0) M67)
        else
          mm_step_J70 rc x1 x2 (M 8 0) (M 11 0) M)
  else
    mm_step_J27 rc x1 x2 (M 8 0) (M 11 0) M
def mm_blocks_J109 (rc : (Int32 → Int32 → MM → Option (Int32 × MM)) × (Int32 → Int32 → MM → Option MM) × (Int32 → Int32 → Int32 → Int32 → MM → Option MM)) (x5 : Int32) (M : MM) : Option MM :=
  Option.bind (mPut M 54 x5) fun M112 =>
  some M112
def mm_blocks_J87 (rc : (Int32 → Int32 → MM → Option (Int32 × MM)) × (Int32 → Int32 → MM → Option MM) × (Int32 → Int32 → Int32 → Int32 → MM → Option MM)) (x2 : Int32) (x3 : Int32) (x4 : Int32) (x5 : Int32) (x7 : Int32) (s1 : Int32) (M : MM) : Option MM :=
  Option.bind (mm_newOp s1 x2 x7 0 x3 x4 M) fun q94 =>
  Option.bind (mAst q94.2 38 x7 (q94.2 41 0)) fun M108 =>
  mm_blocks_J109 rc x5 M108
def mm_blocks_J32 (rc : (Int32 → Int32 → MM → Option (Int32 × MM)) × (Int32 → Int32 → MM → Option MM) × (Int32 → Int32 → Int32 → Int32 → MM → Option MM)) (x1 : Int32) (x2 : Int32) (x3 : Int32) (x4 : Int32) (x5 : Int32) (s0 : Int32) (M : MM) : Option MM :=
  Option.bind (mm_newOp x1 x2 s0 0 x3 x4 M) fun q43 =>
  Option.bind (mPut q43.2 54 q43.1) fun M51 =>
  if (M51 12 0) = 0 then
    (Option.bind (rc.1 (x3 + 1) x4 M51) fun q67 =>
    if q67.1 = 0 then
      (mm_blocks_J109 rc x5 q67.2)
    else
      if x1 = 17 then
        (mm_blocks_J87 rc x2 x3 x4 x5 q43.1 52 q67.2)
      else
        mm_blocks_J87 rc x2 x3 x4 x5 q43.1 53 q67.2)
  else
    mm_blocks_J109 rc x5 M51
def mm_blocks_J18 (rc : (Int32 → Int32 → MM → Option (Int32 × MM)) × (Int32 → Int32 → MM → Option MM) × (Int32 → Int32 → Int32 → Int32 → MM → Option MM)) (x1 : Int32) (x2 : Int32) (x3 : Int32) (x4 : Int32) (x5 : Int32) (M : MM) : Option MM :=
  if x1 = 17 then
    (Option.bind (mm_expression M) fun q25 =>
    mm_blocks_J32 rc x1 x2 x3 x4 x5 q25.1 q25.2)
  else
    mm_blocks_J32 rc x1 x2 x3 x4 x5 (-1) M
def mm_blocks_J206 (rc : (Int32 → Int32 → MM → Option (Int32 × MM)) × (Int32 → Int32 → MM → Option MM) × (Int32 → Int32 → Int32 → Int32 → MM → Option MM)) (x7 : Int32) (M : MM) : Option MM :=
  Option.bind (mAst M 38 x7 (M 41 0)) fun M216 =>
  some M216
def mm_blocks_B (rc : (Int32 → Int32 → MM → Option (Int32 × MM)) × (Int32 → Int32 → MM → Option MM) × (Int32 → Int32 → Int32 → Int32 → MM → Option MM)) (x1 : Int32) (x2 : Int32) (x3 : Int32) (x4 : Int32) (M : MM) : Option MM :=
  if x1 = 17 then
    (mm_blocks_J18 rc x1 x2 x3 x4 (M 54 0) M)
  else
    if x1 = 18 then
      (mm_blocks_J18 rc x1 x2 x3 x4 (M 54 0) M)
    else
      if x1 = 19 then
        (Option.bind (mm_condition M) fun q126 =>
        Option.bind (mm_newOp x1 x2 q126.1 0 0 x4 q126.2) fun q133 =>
        if (q133.2 12 0) = 0 then
          (Option.bind (rc.1 (x3 + 1) x4 q133.2) fun q151 =>
          if q151.1 = 0 then
            (some q151.2)
          else
            Option.bind (mm_newOp 51 x2 0 0 0 x4 q151.2) fun q167 =>
            Option.bind (mAst q167.2 38 q133.1 (q167.2 41 0)) fun M182 =>
            Option.bind (mm_isWord 46 M182) fun v186 =>
            if v186 = 0 then
              (mm_blocks_J206 rc q167.1 M182)
            else
              Option.bind (mm_cut M182) fun M193 =>
              Option.bind (rc.1 (x3 + 1) x4 M193) fun q202 =>
              mm_blocks_J206 rc q167.1 q202.2)
        else
          some q133.2)
      else
        Option.bind (mm_newOp x1 x2 0 0 0 x4 M) fun q226 =>
        Option.bind (rc.1 (x3 + 1) q226.1 q226.2) fun q237 =>
        if q237.1 = 0 then
          (some q237.2)
        else
          Option.bind (mm_newOp 51 x2 0 0 0 x4 q237.2) fun q253 =>
          Option.bind (mAst q253.2 38 q226.1 (q253.2 41 0)) fun M268 =>
          Option.bind (mm_isWord 45 M268) fun v272 =>
          if v272 = 0 then
            (Option.bind (mm_wrong 1 (M268 8 0) M268) fun M284 =>
            some M284)
          else
            Option.bind (mm_cut M268) fun M289 =>
            Option.bind (rc.1 (x3 + 1) x4 M289) fun q298 =>
            Option.bind (mAst q298.2 38 q253.1 (q298.2 41 0)) fun M312 =>
            some M312
def mm_S28 : Nat → (Int32 → Int32 → MM → Option (Int32 × MM)) × (Int32 → Int32 → MM → Option MM) × (Int32 → Int32 → Int32 → Int32 → MM → Option MM)
  | 0 => (fun _ _ _ => none, fun _ _ _ => none, fun _ _ _ _ _ => none)
  | d + 1 => (mm_block_B (mm_S28 d), mm_step_B (mm_S28 d), mm_blocks_B (mm_S28 d))
def mm_block (d : Nat) : Int32 → Int32 → MM → Option (Int32 × MM) := (mm_S28 d).1
def mm_step (d : Nat) : Int32 → Int32 → MM → Option MM := (mm_S28 d).2.1
def mm_blocks (d : Nat) : Int32 → Int32 → Int32 → Int32 → MM → Option MM := (mm_S28 d).2.2
def mm_ride_J41 (M : MM) : Option MM :=
  Option.bind (mm_wrong 1 (M 8 0) M) fun M47 =>
  some M47
def mm_ride_J288 (x1 : Int32) (M : MM) : Option MM :=
  if (M 12 0) = 0 then
    (Option.bind (mPut M 20 ((M 20 0) + 1)) fun M303 =>
    Option.bind (mPut M303 52 x1) fun M308 =>
    Option.bind (mPut M308 53 0) fun M313 =>
    Option.bind (mPut M313 54 (-1)) fun M318 =>
    Option.bind (mAst M318 33 x1 (M318 41 0)) fun M330 =>
    Option.bind (mm_block 60 1 (-1) M330) fun q334 =>
    if q334.1 = 0 then
      (some q334.2)
    else
      Option.bind (mm_newOp 54 (q334.2 8 0) 0 0 0 (-1) q334.2) fun q351 =>
      some q351.2)
  else
    some M
def mm_ride_J257 (x1 : Int32) (s1 : Int32) (s2 : Int32) (M : MM) : Option MM :=
  Option.bind (mAst M 32 s1 s2) fun M257 =>
  Option.bind (mAst M257 26 x1 (-1)) fun M264 =>
  if (M264 12 0) = 0 then
    (Option.bind (mAld M264 25 x1) fun v277 =>
    if v277 = 8 then
      (Option.bind (mm_lead x1 M264) fun M285 =>
      mm_ride_J288 x1 M285)
    else
      mm_ride_J288 x1 M264)
  else
    mm_ride_J288 x1 M264
def mm_ride_J256 (x1 : Int32) (s1 : Int32) (M : MM) : Option MM :=
  mm_ride_J257 x1 s1 0 M
def mm_ride_J225 (x1 : Int32) (x2 : Int32) (s1 : Int32) (s2 : Int32) (M : MM) : Option MM :=
  Option.bind (mAst M 31 s1 s2) fun M225 =>
  if (M225 12 0) = 0 then
    (if (x2 &&& 8) = 0 then
      (mm_ride_J256 x1 x1 M225)
    else
      Option.bind (mm_numberIn 1 500 M225) fun q250 =>
      mm_ride_J257 x1 x1 q250.1 q250.2)
  else
    mm_ride_J256 x1 x1 M225
def mm_ride_J224 (x1 : Int32) (x2 : Int32) (s1 : Int32) (M : MM) : Option MM :=
  mm_ride_J225 x1 x2 s1 0 M
def mm_ride_J195 (x1 : Int32) (x2 : Int32) (s1 : Int32) (s2 : Int32) (M : MM) : Option MM :=
  Option.bind (mAst M 30 s1 s2) fun M195 =>
  if (M195 12 0) = 0 then
    (if (x2 &&& 4) = 0 then
      (mm_ride_J224 x1 x2 x1 M195)
    else
      Option.bind (mm_numberIn 1 60 M195) fun q218 =>
      mm_ride_J225 x1 x2 x1 q218.1 q218.2)
  else
    mm_ride_J224 x1 x2 x1 M195
def mm_ride_J194 (x1 : Int32) (x2 : Int32) (s1 : Int32) (M : MM) : Option MM :=
  mm_ride_J195 x1 x2 s1 0 M
def mm_ride_J164 (x1 : Int32) (x2 : Int32) (s1 : Int32) (s2 : Int32) (M : MM) : Option MM :=
  Option.bind (mAst M 29 s1 s2) fun M164 =>
  if (M164 12 0) = 0 then
    (if (x2 &&& 2) = 0 then
      (mm_ride_J194 x1 x2 x1 M164)
    else
      Option.bind (mm_numberIn 1 200 M164) fun q188 =>
      mm_ride_J195 x1 x2 x1 q188.1 q188.2)
  else
    mm_ride_J194 x1 x2 x1 M164
def mm_ride_J163 (x1 : Int32) (x2 : Int32) (s1 : Int32) (M : MM) : Option MM :=
  mm_ride_J164 x1 x2 s1 0 M
def mm_ride_J133 (x1 : Int32) (x2 : Int32) (s1 : Int32) (s2 : Int32) (M : MM) : Option MM :=
  Option.bind (mAst M 28 s1 s2) fun M133 =>
  if (M133 12 0) = 0 then
    (if (x2 &&& 2) = 0 then
      (mm_ride_J163 x1 x2 x1 M133)
    else
      Option.bind (mm_numberIn 1 500 M133) fun q157 =>
      mm_ride_J164 x1 x2 x1 q157.1 q157.2)
  else
    mm_ride_J163 x1 x2 x1 M133
def mm_ride_J132 (x1 : Int32) (x2 : Int32) (s1 : Int32) (M : MM) : Option MM :=
  mm_ride_J133 x1 x2 s1 0 M
def mm_ride_J103 (x1 : Int32) (x2 : Int32) (s1 : Int32) (s2 : Int32) (M : MM) : Option MM :=
  Option.bind (mAst M 27 s1 s2) fun M103 =>
  if (M103 12 0) = 0 then
    (if (x2 &&& 1) = 0 then
      (mm_ride_J132 x1 x2 x1 M103)
    else
      Option.bind (mm_numberIn 1 50 M103) fun q126 =>
      mm_ride_J133 x1 x2 x1 q126.1 q126.2)
  else
    mm_ride_J132 x1 x2 x1 M103
def mm_ride (M : MM) : Option MM :=
  Option.bind (mm_newName 3 (M 20 0) M) fun q8 =>
  if q8.1 = 0 then
    (some q8.2)
  else
    if (q8.2 7 0) = 1 then
      (if (q8.2 11 0) < 23 then
        (mm_ride_J41 q8.2)
      else
        if (q8.2 11 0) ≤ 31 then
          (Option.bind (mAst q8.2 25 (M 20 0) ((q8.2 11 0) - 23)) fun M63 =>
          Option.bind (mAld M63 25 (M 20 0)) fun v73 =>
          Option.bind (mAld M63 1 v73) fun v74 =>
          Option.bind (mm_cut M63) fun M77 =>
          if (v74 &&& 1) = 0 then
            (mm_ride_J103 (M 20 0) v74 (M 20 0) 0 M77)
          else
            Option.bind (mm_numberIn 1 500 M77) fun q96 =>
            mm_ride_J103 (M 20 0) v74 (M 20 0) q96.1 q96.2)
        else
          mm_ride_J41 q8.2)
    else
      mm_ride_J41 q8.2
def mm_declaration_J28 (M : MM) : Option MM :=
  Option.bind (mm_wrong 1 (M 8 0) M) fun M34 =>
  some M34
def mm_declaration_J214 (M : MM) : Option MM :=
  if (M 12 0) = 0 then
    (Option.bind (mm_need 59 M) fun q224 =>
    some q224.2)
  else
    some M
def mm_declaration_J103 (x2 : Int32) (M : MM) : Option MM :=
  Option.bind (mm_cut M) fun M104 =>
  if x2 = 0 then
    (Option.bind (mm_numberIn 1 9999 M104) fun q117 =>
    Option.bind (mPut q117.2 23 q117.1) fun M120 =>
    Option.bind (mZut M120 24 1) fun M125 =>
    mm_declaration_J214 M125)
  else
    if x2 = 1 then
      (Option.bind (mm_newName 1 (M104 21 0) M104) fun q142 =>
      if q142.1 = 0 then
        (some q142.2)
      else
        Option.bind (mm_numberIn 1 9 q142.2) fun q161 =>
        Option.bind (mAst q161.2 34 (q142.2 21 0) q161.1) fun M164 =>
        Option.bind (mPut M164 21 ((M164 21 0) + 1)) fun M172 =>
        mm_declaration_J214 M172)
    else
      if x2 = 2 then
        (Option.bind (mm_newName 2 (M104 22 0) M104) fun q189 =>
        if q189.1 = 0 then
          (some q189.2)
        else
          Option.bind (mPut q189.2 22 ((q189.2 22 0) + 1)) fun M203 =>
          mm_declaration_J214 M203)
      else
        Option.bind (mm_ride M104) fun M210 =>
        some M210
def mm_declaration_J96 (x1 : Int32) (M : MM) : Option MM :=
  Option.bind (mm_wrong 4 x1 M) fun M99 =>
  some M99
def mm_declaration_J82 (x1 : Int32) (x2 : Int32) (M : MM) : Option MM :=
  if x2 = 3 then
    (if (M 20 0) = 12 then
      (mm_declaration_J96 x1 M)
    else
      mm_declaration_J103 x2 M)
  else
    mm_declaration_J103 x2 M
def mm_declaration_J68 (x1 : Int32) (x2 : Int32) (M : MM) : Option MM :=
  if x2 = 2 then
    (if (M 22 0) = 8 then
      (mm_declaration_J96 x1 M)
    else
      mm_declaration_J82 x1 x2 M)
  else
    mm_declaration_J82 x1 x2 M
def mm_declaration_J54 (x1 : Int32) (x2 : Int32) (M : MM) : Option MM :=
  if x2 = 1 then
    (if (M 21 0) = 6 then
      (mm_declaration_J96 x1 M)
    else
      mm_declaration_J68 x1 x2 M)
  else
    mm_declaration_J68 x1 x2 M
def mm_declaration (M : MM) : Option MM :=
  if (M 7 0) = 1 then
    (if (M 11 0) < 0 then
      (mm_declaration_J28 M)
    else
      if (M 11 0) ≤ 3 then
        (if (M 11 0) = 0 then
          (if (M 24 0) = 0 then
            (mm_declaration_J54 (M 8 0) (M 11 0) M)
          else
            mm_declaration_J96 (M 8 0) M)
        else
          mm_declaration_J54 (M 8 0) (M 11 0) M)
      else
        mm_declaration_J28 M)
  else
    mm_declaration_J28 M
def mm_fair_J146 (k50 : Int32 → MM → Option MM) (x1 : Int32) (M : MM) : Option MM :=
  k50 (x1 + 1) M
def mm_fair_J117 (k50 : Int32 → MM → Option MM) (x1 : Int32) (M : MM) : Option MM :=
  Option.bind (mAld M 43 x1) fun v124 =>
  Option.bind (mm_wrong 3 (v124 / 16) M) fun M128 =>
  mm_fair_J146 k50 x1 M128
def mm_fair_B50 (k50 : Int32 → MM → Option MM) (x1 : Int32) (M : MM) : Option MM :=
  if (M 45 0) ≤ x1 then
    (some M)
  else
    if (M 12 0) = 0 then
      (Option.bind (mAld M 42 x1) fun v70 =>
      if v70 = 7 then
        (Option.bind (mAld M 43 x1) fun v85 =>
        Option.bind (mAld M 43 x1) fun v94 =>
        Option.bind (mm_known (v85 / 16) (v94 - v94 / 16 * 16) M) fun v98 =>
        if v98 = (-1) then
          (mm_fair_J117 k50 x1 M)
        else
          Option.bind (mAld M 14 v98) fun v112 =>
          if v112 = 3 then
            (Option.bind (mAld M 15 v98) fun v144 =>
            Option.bind (mAst M 43 x1 v144) fun M145 =>
            mm_fair_J146 k50 x1 M145)
          else
            mm_fair_J117 k50 x1 M)
      else
        mm_fair_J146 k50 x1 M)
    else
      some M
def mm_fair_L50 : Nat → Int32 → MM → Option MM
  | 0 => fun _ _ => none
  | n + 1 => mm_fair_B50 (mm_fair_L50 n)
def mm_fair_J48 (M : MM) : Option MM :=
  mm_fair_L50 gF 0 M
def mm_fair_J25 (M : MM) : Option MM :=
  if (M 12 0) = 0 then
    (if (M 20 0) = 0 then
      (Option.bind (mm_wrong 1 (M 5 0) M) fun M45 =>
      mm_fair_J48 M45)
    else
      mm_fair_J48 M)
  else
    mm_fair_J48 M
def mm_fair_B4 (k4 : MM → Option MM) (M : MM) : Option MM :=
  if (M 12 0) = 0 then
    (if (M 7 0) = 0 then
      (mm_fair_J25 M)
    else
      Option.bind (mm_declaration M) fun M19 =>
      k4 M19)
  else
    mm_fair_J25 M
def mm_fair_L4 : Nat → MM → Option MM
  | 0 => fun _ => none
  | n + 1 => mm_fair_B4 (mm_fair_L4 n)
def mm_fair (M : MM) : Option MM :=
  Option.bind (mm_cut M) fun M1 =>
  mm_fair_L4 gF M1
def mm_begin_B201 (k201 : Int32 → MM → Option MM) (x1 : Int32) (M : MM) : Option MM :=
  if 8 ≤ x1 then
    (Option.bind (mPut M 79 0) fun M222 =>
    Option.bind (mPut M222 80 0) fun M227 =>
    Option.bind (mPut M227 81 0) fun M232 =>
    Option.bind (mPut M232 82 0) fun M237 =>
    Option.bind (mPut M237 83 0) fun M242 =>
    Option.bind (mPut M242 84 0) fun M247 =>
    some M247)
  else
    Option.bind (mZst M 75 x1 0) fun M213 =>
    k201 (x1 + 1) M213
def mm_begin_L201 : Nat → Int32 → MM → Option MM
  | 0 => fun _ _ => none
  | n + 1 => mm_begin_B201 (mm_begin_L201 n)
def mm_begin_B175 (k175 : Int32 → MM → Option MM) (x1 : Int32) (M : MM) : Option MM :=
  if 6 ≤ x1 then
    (mm_begin_L201 gF 0 M)
  else
    Option.bind (mAld M 34 x1) fun v191 =>
    Option.bind (mAst M 74 x1 v191) fun M192 =>
    k175 (x1 + 1) M192
def mm_begin_L175 : Nat → Int32 → MM → Option MM
  | 0 => fun _ _ => none
  | n + 1 => mm_begin_B175 (mm_begin_L175 n)
def mm_begin_B154 (k154 : Int32 → MM → Option MM) (x1 : Int32) (M : MM) : Option MM :=
  if 72 ≤ x1 then
    (mm_begin_L175 gF 0 M)
  else
    Option.bind (mAst M 73 x1 0) fun M166 =>
    k154 (x1 + 1) M166
def mm_begin_L154 : Nat → Int32 → MM → Option MM
  | 0 => fun _ _ => none
  | n + 1 => mm_begin_B154 (mm_begin_L154 n)
def mm_begin_B133 (k133 : Int32 → MM → Option MM) (x1 : Int32) (M : MM) : Option MM :=
  if 48 ≤ x1 then
    (mm_begin_L154 gF 0 M)
  else
    Option.bind (mAst M 71 x1 0) fun M145 =>
    k133 (x1 + 1) M145
def mm_begin_L133 : Nat → Int32 → MM → Option MM
  | 0 => fun _ _ => none
  | n + 1 => mm_begin_B133 (mm_begin_L133 n)
def mm_begin_B2 (k2 : Int32 → MM → Option MM) (x1 : Int32) (M : MM) : Option MM :=
  if 12 ≤ x1 then
    (mm_begin_L133 gF 0 M)
  else
    Option.bind (mAst M 56 x1 0) fun M14 =>
    Option.bind (mAst M14 57 x1 0) fun M21 =>
    Option.bind (mAst M21 58 x1 0) fun M28 =>
    Option.bind (mAst M28 59 x1 0) fun M35 =>
    Option.bind (mAst M35 60 x1 0) fun M42 =>
    Option.bind (mAst M42 61 x1 0) fun M49 =>
    Option.bind (mAst M49 62 x1 0) fun M56 =>
    Option.bind (mAst M56 63 x1 0) fun M63 =>
    Option.bind (mAst M63 64 x1 0) fun M70 =>
    Option.bind (mAst M70 65 x1 0) fun M77 =>
    Option.bind (mAst M77 66 x1 0) fun M84 =>
    Option.bind (mAld M84 33 x1) fun v95 =>
    Option.bind (mAst M84 67 x1 v95) fun M96 =>
    Option.bind (mAst M96 68 x1 0) fun M103 =>
    Option.bind (mAst M103 69 x1 0) fun M110 =>
    Option.bind (mAst M110 70 x1 0) fun M117 =>
    Option.bind (mAst M117 76 x1 0) fun M124 =>
    k2 (x1 + 1) M124
def mm_begin_L2 : Nat → Int32 → MM → Option MM
  | 0 => fun _ _ => none
  | n + 1 => mm_begin_B2 (mm_begin_L2 n)
def mm_begin (M : MM) : Option MM :=
  mm_begin_L2 gF 0 M
def mm_read_J144 (s1 : Int32) (M : MM) : Option (Int32 × MM) :=
  Option.bind (mZut M 19 s1) fun M144 =>
  if (M144 19 0) = 0 then
    (some ((M144 12 0), M144))
  else
    Option.bind (mm_begin M144) fun M155 =>
    some ((M155 12 0), M155)
def mm_read_B32 (k32 : Int32 → Int32 → MM → Option (Int32 × MM)) (x1 : Int32) (x2 : Int32) (M : MM) : Option (Int32 × MM) :=
  if x1 ≤ x2 then
    (Option.bind (mPut M 5 x1) fun M57 =>
    Option.bind (mPut M57 3 0) fun M62 =>
    Option.bind (mPut M62 6 0) fun M67 =>
    Option.bind (mPut M67 12 0) fun M72 =>
    Option.bind (mPut M72 13 (-1)) fun M77 =>
    Option.bind (mPut M77 18 0) fun M82 =>
    Option.bind (mPut M82 20 0) fun M87 =>
    Option.bind (mPut M87 21 0) fun M92 =>
    Option.bind (mPut M92 22 0) fun M97 =>
    Option.bind (mPut M97 23 9999) fun M104 =>
    Option.bind (mZut M104 24 0) fun M109 =>
    Option.bind (mPut M109 41 0) fun M114 =>
    Option.bind (mPut M114 45 0) fun M119 =>
    Option.bind (mPut M119 51 0) fun M124 =>
    Option.bind (mm_fair M124) fun M128 =>
    if (M128 12 0) = 0 then
      (mm_read_J144 1 M128)
    else
      mm_read_J144 0 M128)
  else
    Option.bind (mAld M 2 x2) fun v47 =>
    Option.bind (mAst M 4 x2 v47) fun M48 =>
    k32 x1 (x2 + 1) M48
def mm_read_L32 : Nat → Int32 → Int32 → MM → Option (Int32 × MM)
  | 0 => fun _ _ _ => none
  | n + 1 => mm_read_B32 (mm_read_L32 n)
def mm_read_J18 (x1 : Int32) (s1 : Int32) (M : MM) : Option (Int32 × MM) :=
  Option.bind (mPut M 90 s1) fun M18 =>
  if (M18 90 0) = 0 then
    (mm_read_L32 gF x1 0 M18)
  else
    some (0, M18)
def mm_read_J13 (x1 : Int32) (M : MM) : Option (Int32 × MM) :=
  mm_read_J18 x1 1 M
def mm_read (x1 : Int32) (M : MM) : Option (Int32 × MM) :=
  if x1 < 0 then
    (mm_read_J13 x1 M)
  else
    if x1 ≤ (M 3 0) then
      (mm_read_J18 x1 0 M)
    else
      mm_read_J13 x1 M
def mm_fault_J15 (x1 : Int32) (s1 : Int32) (M : MM) : Option (Int32 × MM) :=
  Option.bind (mPut M 90 s1) fun M15 =>
  if (M15 90 0) = 0 then
    (if x1 = 0 then
      (some ((M15 12 0), M15))
    else
      some ((M15 13 0), M15))
  else
    some (0, M15)
def mm_fault_J10 (x1 : Int32) (M : MM) : Option (Int32 × MM) :=
  mm_fault_J15 x1 0 M
def mm_fault (x1 : Int32) (M : MM) : Option (Int32 × MM) :=
  if x1 = 0 then
    (mm_fault_J10 x1 M)
  else
    if x1 = 1 then
      (mm_fault_J10 x1 M)
    else
      mm_fault_J15 x1 1 M
def mm_count_J15 (x1 : Int32) (s1 : Int32) (M : MM) : Option (Int32 × MM) :=
  Option.bind (mPut M 90 s1) fun M15 =>
  if (M15 90 0) = 0 then
    (if x1 = 4 then
      (some ((M15 3 0), M15))
    else
      if (M15 19 0) = 0 then
        (some (0, M15))
      else
        if x1 = 0 then
          (some ((M15 20 0), M15))
        else
          if x1 = 1 then
            (some ((M15 21 0), M15))
          else
            if x1 = 2 then
              (some ((M15 22 0), M15))
            else
              some ((M15 23 0), M15))
  else
    some (0, M15)
def mm_count_J14 (x1 : Int32) (M : MM) : Option (Int32 × MM) :=
  mm_count_J15 x1 1 M
def mm_count (x1 : Int32) (M : MM) : Option (Int32 × MM) :=
  if x1 < 0 then
    (mm_count_J14 x1 M)
  else
    if 4 < x1 then
      (mm_count_J14 x1 M)
    else
      mm_count_J15 x1 0 M
def mm_open_J13 (s1 : Int32) (M : MM) : Option MM :=
  Option.bind (mPut M 90 s1) fun M13 =>
  if (M13 90 0) = 0 then
    (Option.bind (mm_begin M13) fun M24 =>
    some M24)
  else
    some M13
def mm_open (M : MM) : Option MM :=
  if (M 19 0) = 0 then
    (mm_open_J13 1 M)
  else
    mm_open_J13 0 M
def mm_isRide (x1 : Int32) (M : MM) : Option Int32 :=
  if x1 < 0 then
    (mZr 0 0)
  else
    if (M 20 0) ≤ x1 then
      (mZr 0 0)
    else
      mZr 1 1
def mm_has (x1 : Int32) (x2 : Int32) (M : MM) : Option Int32 :=
  Option.bind (mAld M 25 x1) fun v9 =>
  Option.bind (mAld M 1 v9) fun v10 =>
  if (v10 &&& x2) = 0 then
    (mZr 0 0)
  else
    mZr 1 1
def mm_may_J29 (s1 : Int32) (M : MM) : Option (Int32 × MM) :=
  Option.bind (mPut M 90 s1) fun M29 =>
  if (M29 90 0) = 0 then
    (mZr 1 (1, M29))
  else
    mZr 0 (0, M29)
def mm_may (x1 : Int32) (x2 : Int32) (M : MM) : Option (Int32 × MM) :=
  if (M 19 0) = 0 then
    (mm_may_J29 1 M)
  else
    if x1 = 0 then
      (mm_may_J29 2 M)
    else
      if x2 = 0 then
        (mm_may_J29 3 M)
      else
        mm_may_J29 0 M
def mm_queue_B4 (k4 : Int32 → Int32 → Int32 → MM → Option Int32) (x1 : Int32) (x2 : Int32) (x3 : Int32) (M : MM) : Option Int32 :=
  Option.bind (mAld M 76 x1) fun v10 =>
  if v10 ≤ x3 then
    (some x2)
  else
    Option.bind (mAld M 77 ((30 * x1) + x3)) fun v25 =>
    k4 x1 (x2 + v25) (x3 + 1) M
def mm_queue_L4 : Nat → Int32 → Int32 → Int32 → MM → Option Int32
  | 0 => fun _ _ _ _ => none
  | n + 1 => mm_queue_B4 (mm_queue_L4 n)
def mm_queue (x1 : Int32) (M : MM) : Option Int32 :=
  mm_queue_L4 gF x1 0 0 M
def mm_come_J52 (x1 : Int32) (x2 : Int32) (s1 : Int32) (s2 : Int32) (M : MM) : Option (Int32 × MM) :=
  Option.bind (mm_may s1 s2 M) fun q52 =>
  if q52.1 = 0 then
    (some (0, q52.2))
  else
    Option.bind (mAld q52.2 76 x1) fun v65 =>
    if v65 = 30 then
      (some ((-1), q52.2))
    else
      Option.bind (mAld q52.2 76 x1) fun v86 =>
      Option.bind (mAst q52.2 77 ((30 * x1) + v86) x2) fun M89 =>
      Option.bind (mAld M89 76 x1) fun v103 =>
      Option.bind (mAst M89 78 ((30 * x1) + v103) (M89 79 0)) fun M109 =>
      Option.bind (mAld M109 76 x1) fun v116 =>
      Option.bind (mAst M109 76 x1 (v116 + 1)) fun M119 =>
      Option.bind (mm_queue x1 M119) fun v122 =>
      some (v122, M119)
def mm_come_J51 (x1 : Int32) (x2 : Int32) (s1 : Int32) (M : MM) : Option (Int32 × MM) :=
  mm_come_J52 x1 x2 s1 0 M
def mm_come_J20 (x1 : Int32) (x2 : Int32) (s0 : Int32) (M : MM) : Option (Int32 × MM) :=
  if s0 = 0 then
    (mm_come_J51 x1 x2 s0 M)
  else
    if x2 < 1 then
      (mm_come_J51 x1 x2 s0 M)
    else
      if 100 < x2 then
        (mm_come_J51 x1 x2 s0 M)
      else
        Option.bind (mm_has x1 4 M) fun v41 =>
        if v41 = 0 then
          (mm_come_J51 x1 x2 s0 M)
        else
          mm_come_J52 x1 x2 s0 1 M
def mm_come_J19 (x1 : Int32) (x2 : Int32) (M : MM) : Option (Int32 × MM) :=
  mm_come_J20 x1 x2 0 M
def mm_come (x1 : Int32) (x2 : Int32) (M : MM) : Option (Int32 × MM) :=
  if (M 19 0) = 0 then
    (mm_come_J19 x1 x2 M)
  else
    Option.bind (mm_isRide x1 M) fun v9 =>
    if v9 = 0 then
      (mm_come_J19 x1 x2 M)
    else
      mm_come_J20 x1 x2 1 M
def mm_wind_J28 (x1 : Int32) (s1 : Int32) (M : MM) : Option (Int32 × MM) :=
  Option.bind (mPut M 90 s1) fun M28 =>
  if (M28 90 0) = 0 then
    (Option.bind (mPut M28 80 x1) fun M47 =>
    some ((M28 80 0), M47))
  else
    some (0, M28)
def mm_wind_J23 (x1 : Int32) (M : MM) : Option (Int32 × MM) :=
  mm_wind_J28 x1 2 M
def mm_wind (x1 : Int32) (M : MM) : Option (Int32 × MM) :=
  if (M 19 0) = 0 then
    (mm_wind_J28 x1 1 M)
  else
    if x1 < 0 then
      (mm_wind_J23 x1 M)
    else
      if x1 ≤ 199 then
        (mm_wind_J28 x1 0 M)
      else
        mm_wind_J23 x1 M
def mm_leaves_B15 (k15 : Int32 → Int32 → MM → Option MM) (x1 : Int32) (x2 : Int32) (M : MM) : Option MM :=
  Option.bind (mAld M 76 x1) fun v25 =>
  if ((30 * x1) + v25) ≤ x2 then
    (some M)
  else
    Option.bind (mAld M 77 (x2 + 1)) fun v42 =>
    Option.bind (mAst M 77 x2 v42) fun M43 =>
    Option.bind (mAld M43 78 (x2 + 1)) fun v56 =>
    Option.bind (mAst M43 78 x2 v56) fun M57 =>
    k15 x1 (x2 + 1) M57
def mm_leaves_L15 : Nat → Int32 → Int32 → MM → Option MM
  | 0 => fun _ _ _ => none
  | n + 1 => mm_leaves_B15 (mm_leaves_L15 n)
def mm_leaves (x1 : Int32) (M : MM) : Option MM :=
  Option.bind (mAld M 76 x1) fun v6 =>
  Option.bind (mAst M 76 x1 (v6 - 1)) fun M9 =>
  mm_leaves_L15 gF x1 (30 * x1) M9
def mm_note_J67 (M : MM) : Option MM :=
  Option.bind (mPut M 84 ((M 84 0) + 1)) fun M74 =>
  some M74
def mm_note (x1 : Int32) (x2 : Int32) (x3 : Int32) (M : MM) : Option MM :=
  if 400 ≤ (M 84 0) then
    (mm_note_J67 M)
  else
    Option.bind (mAst M 85 (4 * (M 84 0)) x1) fun M21 =>
    Option.bind (mAst M21 85 ((4 * (M21 84 0)) + 1) x2) fun M35 =>
    Option.bind (mAst M35 85 ((4 * (M35 84 0)) + 2) x3) fun M49 =>
    Option.bind (mAst M49 85 ((4 * (M49 84 0)) + 3) (M49 79 0)) fun M66 =>
    mm_note_J67 M66
def mm_isOver (x1 : Int32) (M : MM) : Option MM :=
  Option.bind (mAst M 65 x1 1) fun M6 =>
  Option.bind (mm_note 6 x1 (M6 79 0) M6) fun M15 =>
  some M15
def mm_push (x1 : Int32) (M : MM) : Option MM :=
  Option.bind (mAst M 87 (M 88 0) x1) fun M9 =>
  Option.bind (mPut M9 88 ((M9 88 0) + 1)) fun M17 =>
  some M17
def mm_measured (x1 : Int32) (x2 : Int32) (M : MM) : Option Int32 :=
  if x2 = 0 then
    (Option.bind (mAld M 56 x1) fun v45 =>
    some v45)
  else
  if x2 = 1 then
    (Option.bind (mAld M 58 x1) fun v52 =>
    some v52)
  else
  if x2 = 2 then
    (Option.bind (mAld M 61 x1) fun v59 =>
    some v59)
  else
  if x2 = 3 then
    (Option.bind (mAld M 62 x1) fun v66 =>
    some v66)
  else
  if x2 = 4 then
    (Option.bind (mAld M 63 x1) fun v73 =>
    some v73)
  else
  if x2 = 5 then
    (Option.bind (mAld M 64 x1) fun v80 =>
    some v80)
  else
    Option.bind (mm_queue x1 M) fun v84 =>
    some v84
def mm_two_J107 (s1 : Int32) (s2 : Int32) (M : MM) : Option MM :=
  Option.bind (mAst M 87 s1 s2) fun M107 =>
  some M107
def mm_two_J48 (x1 : Int32) (x2 : Int32) (x3 : Int32) (M : MM) : Option MM :=
  if x1 = 9 then
    (mm_two_J107 ((M 88 0) - 1) (x3 + x2) M)
  else
    if x1 = 10 then
      (mm_two_J107 ((M 88 0) - 1) (x3 - x2) M)
    else
      if x1 = 11 then
        (mm_two_J107 ((M 88 0) - 1) (x3 * x2) M)
      else
        if x2 = (-1) then
          (mm_two_J107 ((M 88 0) - 1) (-x3) M)
        else
          Option.bind (mDiv x3 x2) fun v106 =>
          mm_two_J107 ((M 88 0) - 1) v106 M
def mm_two (x1 : Int32) (M : MM) : Option MM :=
  Option.bind (mPut M 88 ((M 88 0) - 1)) fun M7 =>
  Option.bind (mAld M7 87 (M7 88 0)) fun v18 =>
  Option.bind (mAld M7 87 ((M7 88 0) - 1)) fun v30 =>
  if x1 = 12 then
    (if v18 = 0 then
      (Option.bind (mZut M7 89 1) fun M44 =>
      some M44)
    else
      mm_two_J48 x1 v18 v30 M7)
  else
    mm_two_J48 x1 v18 v30 M7
def mm_value_J233 (M : MM) : Option (Int32 × MM) :=
  if (M 89 0) = 0 then
    (Option.bind (mAld M 87 0) fun v249 =>
    some (v249, M))
  else
    some (0, M)
def mm_value_J227 (k12 : Int32 → Int32 → MM → Option (Int32 × MM)) (x2 : Int32) (x3 : Int32) (M : MM) : Option (Int32 × MM) :=
  k12 x2 (x3 + 1) M
def mm_value_B12 (k12 : Int32 → Int32 → MM → Option (Int32 × MM)) (x2 : Int32) (x3 : Int32) (M : MM) : Option (Int32 × MM) :=
  Option.bind (mAld M 42 x3) fun v17 =>
  if v17 = 0 then
    (mm_value_J233 M)
  else
    if (M 89 0) = 0 then
      (Option.bind (mAld M 42 x3) fun v33 =>
      if v33 = 1 then
        (Option.bind (mAld M 43 x3) fun v86 =>
        Option.bind (mm_push v86 M) fun M87 =>
        mm_value_J227 k12 x2 x3 M87)
      else
      if v33 = 2 then
        (Option.bind (mAld M 43 x3) fun v106 =>
        Option.bind (mAld M 71 ((4 * x2) + v106)) fun v108 =>
        Option.bind (mm_push v108 M) fun M109 =>
        mm_value_J227 k12 x2 x3 M109)
      else
      if v33 = 3 then
        (Option.bind (mAld M 66 x2) fun v121 =>
        Option.bind (mm_push v121 M) fun M122 =>
        mm_value_J227 k12 x2 x3 M122)
      else
      if v33 = 4 then
        (Option.bind (mm_push (M 79 0) M) fun M133 =>
        mm_value_J227 k12 x2 x3 M133)
      else
      if v33 = 5 then
        (Option.bind (mm_push (M 80 0) M) fun M144 =>
        mm_value_J227 k12 x2 x3 M144)
      else
      if v33 = 6 then
        (Option.bind (mAld M 43 x3) fun v158 =>
        Option.bind (mm_measured x2 v158 M) fun v159 =>
        Option.bind (mm_push v159 M) fun M162 =>
        mm_value_J227 k12 x2 x3 M162)
      else
      if v33 = 7 then
        (Option.bind (mAld M 43 x3) fun v175 =>
        Option.bind (mAld M 44 x3) fun v181 =>
        Option.bind (mm_measured v175 v181 M) fun v182 =>
        Option.bind (mm_push v182 M) fun M185 =>
        mm_value_J227 k12 x2 x3 M185)
      else
      if v33 = 8 then
        (Option.bind (mAld M 87 ((M 88 0) - 1)) fun v211 =>
        Option.bind (mAst M 87 ((M 88 0) - 1) (-v211)) fun M213 =>
        mm_value_J227 k12 x2 x3 M213)
      else
        Option.bind (mAld M 42 x3) fun v223 =>
        Option.bind (mm_two v223 M) fun M224 =>
        mm_value_J227 k12 x2 x3 M224)
    else
      mm_value_J233 M
def mm_value_L12 : Nat → Int32 → Int32 → MM → Option (Int32 × MM)
  | 0 => fun _ _ _ => none
  | n + 1 => mm_value_B12 (mm_value_L12 n)
def mm_value (x1 : Int32) (x2 : Int32) (M : MM) : Option (Int32 × MM) :=
  Option.bind (mPut M 88 0) fun M2 =>
  Option.bind (mZut M2 89 0) fun M7 =>
  mm_value_L12 gF x2 x1 M7
def mm_goTo_J68 (k5 : Int32 → Int32 → Int32 → MM → Option MM) (x1 : Int32) (x3 : Int32) (M : MM) : Option MM :=
  k5 x1 x3 0 M
def mm_goTo_B5 (k5 : Int32 → Int32 → Int32 → MM → Option MM) (x1 : Int32) (x3 : Int32) (x4 : Int32) (M : MM) : Option MM :=
  if x4 = 0 then
    (Option.bind (mAst M 67 x1 x3) fun M80 =>
    Option.bind (mAst M80 70 x1 0) fun M87 =>
    Option.bind (mAld M87 35 x3) fun v93 =>
    if v93 = 54 then
      (Option.bind (mm_isOver x1 M87) fun M101 =>
      some M101)
    else
      some M87)
  else
    Option.bind (mAld M 35 x3) fun v15 =>
    if v15 = 51 then
      (Option.bind (mAld M 38 x3) fun v26 =>
      k5 x1 v26 x4 M)
    else
      Option.bind (mAld M 35 x3) fun v36 =>
      if v36 = 52 then
        (Option.bind (mAld M 39 x3) fun v55 =>
        Option.bind (mAld M 72 ((11 * x1) + v55)) fun v57 =>
        if 2 ≤ v57 then
          (mm_goTo_J68 k5 x1 x3 M)
        else
          k5 x1 (x3 + 1) x4 M)
      else
        mm_goTo_J68 k5 x1 x3 M
def mm_goTo_L5 : Nat → Int32 → Int32 → Int32 → MM → Option MM
  | 0 => fun _ _ _ _ => none
  | n + 1 => mm_goTo_B5 (mm_goTo_L5 n)
def mm_goTo (x1 : Int32) (x2 : Int32) (M : MM) : Option MM :=
  mm_goTo_L5 gF x1 x2 1 M
def mm_stalls_B41 (k41 : Int32 → Int32 → Int32 → MM → Option MM) (x1 : Int32) (x2 : Int32) (x4 : Int32) (M : MM) : Option MM :=
  if 6 ≤ x4 then
    (Option.bind (mm_note 2 x1 x2 M) fun M93 =>
    some M93)
  else
    Option.bind (mAld M 74 x4) fun v55 =>
    Option.bind (mAld M 73 ((6 * x1) + x4)) fun v67 =>
    Option.bind (mAst M 74 x4 (v55 + v67)) fun M69 =>
    Option.bind (mAst M69 73 ((6 * x1) + x4) 0) fun M82 =>
    k41 x1 x2 (x4 + 1) M82
def mm_stalls_L41 : Nat → Int32 → Int32 → Int32 → MM → Option MM
  | 0 => fun _ _ _ _ => none
  | n + 1 => mm_stalls_B41 (mm_stalls_L41 n)
def mm_stalls (x1 : Int32) (x2 : Int32) (M : MM) : Option MM :=
  Option.bind (mAst M 57 x1 0) fun M6 =>
  Option.bind (mAst M6 59 x1 0) fun M13 =>
  Option.bind (mAld M13 67 x1) fun v23 =>
  Option.bind (mAld M13 40 v23) fun v24 =>
  if v24 = (-1) then
    (Option.bind (mAst M13 65 x1 2) fun M37 =>
    mm_stalls_L41 gF x1 x2 0 M37)
  else
    Option.bind (mAst M13 66 x1 x2) fun M103 =>
    Option.bind (mm_note 1 x1 x2 M103) fun M108 =>
    Option.bind (mAld M108 38 v24) fun v118 =>
    Option.bind (mm_goTo x1 v118 M108) fun M119 =>
    some M119
def mm_isCalm_J74 (x1 : Int32) (x2 : Int32) (x3 : Int32) (s0 : Int32) (M : MM) : Option Int32 :=
  Option.bind (mAld M 25 x1) fun v81 =>
  if v81 = 3 then
    (mZr 1 1)
  else
  if v81 = 4 then
    (if x2 = 0 then
      (mZr 0 0)
    else
      if x3 = 0 then
        (mZr 0 0)
      else
        if s0 = 0 then
          (mZr 0 0)
        else
          mZr 1 1)
  else
  if v81 = 5 then
    (mZr x3 x3)
  else
  if v81 = 6 then
    (Option.bind (mAld M 62 x1) fun v125 =>
    if v125 < 50 then
      (mZr 0 0)
    else
      if s0 = 0 then
        (mZr 0 0)
      else
        mZr 1 1)
  else
  if v81 = 7 then
    (if x2 = 0 then
      (mZr 0 0)
    else
      if x3 = 0 then
        (mZr 0 0)
      else
        if s0 = 0 then
          (mZr 0 0)
        else
          Option.bind (mAld M 62 x1) fun v160 =>
          if v160 < 20 then
            (mZr 0 0)
          else
            mZr 1 1)
  else
    if x2 = 0 then
      (mZr 0 0)
    else
      if x3 = 0 then
        (mZr 0 0)
      else
        if s0 = 0 then
          (mZr 0 0)
        else
          mZr 1 1
def mm_isCalm_J69 (x1 : Int32) (x2 : Int32) (x3 : Int32) (M : MM) : Option Int32 :=
  mm_isCalm_J74 x1 x2 x3 1 M
def mm_isCalm_J47 (x1 : Int32) (x2 : Int32) (s0 : Int32) (M : MM) : Option Int32 :=
  Option.bind (mm_has x1 16 M) fun v52 =>
  if v52 = 0 then
    (mm_isCalm_J69 x1 x2 s0 M)
  else
    Option.bind (mAld M 63 x1) fun v63 =>
    if 50 < v63 then
      (mm_isCalm_J74 x1 x2 s0 0 M)
    else
      mm_isCalm_J69 x1 x2 s0 M
def mm_isCalm_J42 (x1 : Int32) (x2 : Int32) (M : MM) : Option Int32 :=
  mm_isCalm_J47 x1 x2 1 M
def mm_isCalm_J23 (x1 : Int32) (s0 : Int32) (M : MM) : Option Int32 :=
  Option.bind (mm_has x1 2 M) fun v27 =>
  if v27 = 0 then
    (mm_isCalm_J42 x1 s0 M)
  else
    Option.bind (mAld M 58 x1) fun v38 =>
    if v38 = 0 then
      (mm_isCalm_J42 x1 s0 M)
    else
      mm_isCalm_J47 x1 s0 0 M
def mm_isCalm_J18 (x1 : Int32) (M : MM) : Option Int32 :=
  mm_isCalm_J23 x1 1 M
def mm_isCalm (x1 : Int32) (M : MM) : Option Int32 :=
  Option.bind (mm_has x1 1 M) fun v3 =>
  if v3 = 0 then
    (mm_isCalm_J18 x1 M)
  else
    Option.bind (mAld M 56 x1) fun v14 =>
    if v14 = 0 then
      (mm_isCalm_J18 x1 M)
    else
      mm_isCalm_J23 x1 0 M
def mm_board_J129 (k25 : Int32 → Int32 → MM → Option MM) (x1 : Int32) (x2 : Int32) (M : MM) : Option MM :=
  k25 x1 x2 M
def mm_board_J63 (k25 : Int32 → Int32 → MM → Option MM) (x1 : Int32) (x2 : Int32) (x3 : Int32) (s0 : Int32) (M : MM) : Option MM :=
  Option.bind (mAld M 78 x3) fun v81 =>
  Option.bind (mPut M 83 ((M 83 0) + (s0 * ((M 79 0) - v81)))) fun M85 =>
  Option.bind (mAld M85 61 x1) fun v94 =>
  Option.bind (mAst M85 61 x1 (v94 + s0)) fun M98 =>
  Option.bind (mAld M98 77 x3) fun v105 =>
  Option.bind (mAst M98 77 x3 (v105 - s0)) fun M109 =>
  Option.bind (mAld M109 77 x3) fun v120 =>
  if v120 = 0 then
    (Option.bind (mm_leaves x1 M109) fun M126 =>
    mm_board_J129 k25 x1 (x2 - s0) M126)
  else
    mm_board_J129 k25 x1 (x2 - s0) M109
def mm_board_B25 (k25 : Int32 → Int32 → MM → Option MM) (x1 : Int32) (x2 : Int32) (M : MM) : Option MM :=
  if x2 ≤ 0 then
    (some M)
  else
    Option.bind (mAld M 76 x1) fun v34 =>
    if v34 ≤ 0 then
      (some M)
    else
      Option.bind (mAld M 77 (30 * x1)) fun v48 =>
      if x2 ≤ v48 then
        (mm_board_J63 k25 x1 x2 (30 * x1) x2 M)
      else
        Option.bind (mAld M 77 (30 * x1)) fun v58 =>
        mm_board_J63 k25 x1 x2 (30 * x1) v58 M
def mm_board_L25 : Nat → Int32 → Int32 → MM → Option MM
  | 0 => fun _ _ _ => none
  | n + 1 => mm_board_B25 (mm_board_L25 n)
def mm_board_J24 (x1 : Int32) (s0 : Int32) (M : MM) : Option MM :=
  mm_board_L25 gF x1 s0 M
def mm_board (x1 : Int32) (M : MM) : Option MM :=
  Option.bind (mAld M 31 x1) fun v5 =>
  Option.bind (mAld M 61 x1) fun v11 =>
  if (v5 - v11) ≤ 5 then
    (mm_board_J24 x1 (v5 - v11) M)
  else
    mm_board_J24 x1 5 M
def mm_takes_J150 (x1 : Int32) (x2 : Int32) (M : MM) : Option (Int32 × MM) :=
  Option.bind (mAld M 69 x1) fun v156 =>
  Option.bind (mAst M 69 x1 (v156 - 1)) fun M159 =>
  Option.bind (mAld M159 69 x1) fun v165 =>
  if v165 = 0 then
    (Option.bind (mm_goTo x1 (x2 + 1) M159) fun M174 =>
    mZr 0 (0, M174))
  else
    mZr 0 (0, M159)
def mm_takes_J149 (x1 : Int32) (x2 : Int32) (s1 : Int32) (s2 : Int32) (M : MM) : Option (Int32 × MM) :=
  Option.bind (mAst M 64 s1 s2) fun M149 =>
  mm_takes_J150 x1 x2 M149
def mm_takes_J109 (x1 : Int32) (x2 : Int32) (M : MM) : Option (Int32 × MM) :=
  Option.bind (mAld M 35 x2) fun v114 =>
  if v114 = 10 then
    (Option.bind (mAld M 64 x1) fun v130 =>
    if 50 ≤ v130 then
      (Option.bind (mAld M 64 x1) fun v145 =>
      mm_takes_J149 x1 x2 x1 (v145 - 50) M)
    else
      mm_takes_J149 x1 x2 x1 0 M)
  else
    mm_takes_J150 x1 x2 M
def mm_takes_J93 (x1 : Int32) (x2 : Int32) (M : MM) : Option (Int32 × MM) :=
  Option.bind (mAld M 35 x2) fun v98 =>
  if v98 = 8 then
    (Option.bind (mm_board x1 M) fun M106 =>
    mm_takes_J109 x1 x2 M106)
  else
    mm_takes_J109 x1 x2 M
def mm_takes_J66 (x1 : Int32) (x2 : Int32) (M : MM) : Option (Int32 × MM) :=
  Option.bind (mAld M 35 x2) fun v71 =>
  if v71 = 11 then
    (mm_takes_J93 x1 x2 M)
  else
    Option.bind (mm_isCalm x1 M) fun v79 =>
    if v79 = 0 then
      (Option.bind (mm_stalls x1 1 M) fun M88 =>
      mZr 1 (1, M88))
    else
      mm_takes_J93 x1 x2 M
def mm_takes (x1 : Int32) (x2 : Int32) (M : MM) : Option (Int32 × MM) :=
  Option.bind (mAld M 70 x1) fun v5 =>
  if v5 = 0 then
    (Option.bind (mAld M 37 x2) fun v15 =>
    Option.bind (mm_value v15 x1 M) fun q17 =>
    if (q17.2 89 0) = 0 then
      (if 1 ≤ q17.1 then
        (Option.bind (mAst q17.2 69 x1 q17.1) fun M58 =>
        Option.bind (mAst M58 70 x1 1) fun M65 =>
        mm_takes_J66 x1 x2 M65)
      else
        Option.bind (mm_goTo x1 (x2 + 1) q17.2) fun M47 =>
        mZr 1 (1, M47))
    else
      Option.bind (mm_stalls x1 6 q17.2) fun M32 =>
      mZr 1 (1, M32))
  else
    mm_takes_J66 x1 x2 M
def mm_asked_J233 (s0 : Int32) (s1 : Int32) (M : MM) : Option (Int32 × MM) :=
  if s0 = s1 then
    (mZr 0 (0, M))
  else
    mZr 1 (1, M)
def mm_asked_J217 (x1 : Int32) (x3 : Int32) (M : MM) : Option (Int32 × MM) :=
  Option.bind (mAld M 46 x1) fun v223 =>
  if v223 = 1 then
    (mm_asked_J233 x3 1 M)
  else
    mm_asked_J233 x3 0 M
def mm_asked_J136 (x1 : Int32) (s0 : Int32) (M : MM) : Option (Int32 × MM) :=
  mm_asked_J217 x1 s0 M
def mm_asked_J152 (x1 : Int32) (s0 : Int32) (M : MM) : Option (Int32 × MM) :=
  mm_asked_J217 x1 s0 M
def mm_asked_J168 (x1 : Int32) (s0 : Int32) (M : MM) : Option (Int32 × MM) :=
  mm_asked_J217 x1 s0 M
def mm_asked_J200 (x1 : Int32) (s0 : Int32) (M : MM) : Option (Int32 × MM) :=
  mm_asked_J217 x1 s0 M
def mm_asked_J184 (x1 : Int32) (s0 : Int32) (M : MM) : Option (Int32 × MM) :=
  mm_asked_J217 x1 s0 M
def mm_asked_J216 (x1 : Int32) (s0 : Int32) (M : MM) : Option (Int32 × MM) :=
  mm_asked_J217 x1 s0 M
def mm_asked (x1 : Int32) (x2 : Int32) (M : MM) : Option (Int32 × MM) :=
  Option.bind (mAld M 47 x1) fun v5 =>
  if v5 = 0 then
    (Option.bind (mAld M 48 x1) fun v18 =>
    Option.bind (mAld M 75 v18) fun v19 =>
    mm_asked_J217 x1 v19 M)
  else
    Option.bind (mAld M 48 x1) fun v30 =>
    Option.bind (mm_value v30 x2 M) fun q32 =>
    if (q32.2 89 0) = 0 then
      (Option.bind (mAld q32.2 49 x1) fun v52 =>
      Option.bind (mm_value v52 x2 q32.2) fun q54 =>
      if (q54.2 89 0) = 0 then
        (Option.bind (mAld q54.2 47 x1) fun v73 =>
        if v73 = 60 then
          (if q54.1 ≤ q32.1 then
            (mm_asked_J136 x1 0 q54.2)
          else
            mm_asked_J136 x1 1 q54.2)
        else
        if v73 = 62 then
          (if q32.1 ≤ q54.1 then
            (mm_asked_J152 x1 0 q54.2)
          else
            mm_asked_J152 x1 1 q54.2)
        else
        if v73 = 316 then
          (if q54.1 < q32.1 then
            (mm_asked_J168 x1 0 q54.2)
          else
            mm_asked_J168 x1 1 q54.2)
        else
        if v73 = 317 then
          (if q32.1 = q54.1 then
            (mm_asked_J200 x1 1 q54.2)
          else
            mm_asked_J200 x1 0 q54.2)
        else
        if v73 = 318 then
          (if q32.1 < q54.1 then
            (mm_asked_J184 x1 0 q54.2)
          else
            mm_asked_J184 x1 1 q54.2)
        else
          if q32.1 = q54.1 then
            (mm_asked_J216 x1 0 q54.2)
          else
            mm_asked_J216 x1 1 q54.2)
      else
        mZr 0 (0, q54.2))
    else
      mZr 0 (0, q32.2)
def mm_isTrue_J51 (k15 : Int32 → Int32 → Int32 → MM → Option (Int32 × MM)) (x2 : Int32) (x3 : Int32) (x4 : Int32) (s0 : Int32) (s1 : Int32) (M : MM) : Option (Int32 × MM) :=
  if s0 = s1 then
    (Option.bind (mm_asked (x4 + 1) x2 M) fun q61 =>
    k15 x2 q61.1 (x4 + 1) q61.2)
  else
    mZr x3 (x3, M)
def mm_isTrue_B15 (k15 : Int32 → Int32 → Int32 → MM → Option (Int32 × MM)) (x2 : Int32) (x3 : Int32) (x4 : Int32) (M : MM) : Option (Int32 × MM) :=
  if (M 89 0) = 0 then
    (Option.bind (mAld M 50 x4) fun v28 =>
    if v28 = (-1) then
      (mZr x3 (x3, M))
    else
      Option.bind (mAld M 50 x4) fun v40 =>
      if v40 = 48 then
        (mm_isTrue_J51 k15 x2 x3 x4 x3 1 M)
      else
        mm_isTrue_J51 k15 x2 x3 x4 x3 0 M)
  else
    mZr x3 (x3, M)
def mm_isTrue_L15 : Nat → Int32 → Int32 → Int32 → MM → Option (Int32 × MM)
  | 0 => fun _ _ _ _ => none
  | n + 1 => mm_isTrue_B15 (mm_isTrue_L15 n)
def mm_isTrue (x1 : Int32) (x2 : Int32) (M : MM) : Option (Int32 × MM) :=
  Option.bind (mZut M 89 0) fun M2 =>
  Option.bind (mm_asked x1 x2 M2) fun q8 =>
  mm_isTrue_L15 gF x2 q8.1 x1 q8.2
def mm_shares_J205 (x1 : Int32) (x2 : Int32) (M : MM) : Option (Int32 × MM) :=
  Option.bind (mm_goTo x1 (x2 + 1) M) fun M210 =>
  mZr 1 (1, M210)
def mm_shares_J204 (x1 : Int32) (x2 : Int32) (s1 : Int32) (s2 : Int32) (M : MM) : Option (Int32 × MM) :=
  Option.bind (mZst M 75 s1 s2) fun M204 =>
  mm_shares_J205 x1 x2 M204
def mm_shares (x1 : Int32) (x2 : Int32) (M : MM) : Option (Int32 × MM) :=
  Option.bind (mAld M 37 x2) fun v5 =>
  Option.bind (mAld M 35 x2) fun v12 =>
  if v12 = 12 then
    (Option.bind (mm_isTrue v5 x1 M) fun q43 =>
    if (q43.2 89 0) = 0 then
      (if q43.1 = 0 then
        (mZr 0 (0, q43.2))
      else
        mm_shares_J205 x1 x2 q43.2)
    else
      Option.bind (mm_stalls x1 6 q43.2) fun M59 =>
      mZr 1 (1, M59))
  else
  if v12 = 13 then
    (Option.bind (mAld M 73 ((6 * x1) + v5)) fun v81 =>
    if v81 = 2 then
      (Option.bind (mm_stalls x1 3 M) fun M89 =>
      mZr 1 (1, M89))
    else
      Option.bind (mAld M 74 v5) fun v99 =>
      if v99 = 0 then
        (mZr 0 (0, M))
      else
        Option.bind (mAld M 74 v5) fun v111 =>
        Option.bind (mAst M 74 v5 (v111 - 1)) fun M114 =>
        Option.bind (mAld M114 73 ((6 * x1) + v5)) fun v126 =>
        Option.bind (mAst M114 73 ((6 * x1) + v5) (v126 + 1)) fun M129 =>
        mm_shares_J205 x1 x2 M129)
  else
  if v12 = 14 then
    (Option.bind (mAld M 73 ((6 * x1) + v5)) fun v143 =>
    if v143 = 0 then
      (Option.bind (mm_stalls x1 3 M) fun M150 =>
      mZr 1 (1, M150))
    else
      Option.bind (mAld M 74 v5) fun v161 =>
      Option.bind (mAst M 74 v5 (v161 + 1)) fun M164 =>
      Option.bind (mAld M164 73 ((6 * x1) + v5)) fun v176 =>
      Option.bind (mAst M164 73 ((6 * x1) + v5) (v176 - 1)) fun M179 =>
      mm_shares_J205 x1 x2 M179)
  else
    Option.bind (mAld M 35 x2) fun v193 =>
    if v193 = 15 then
      (mm_shares_J204 x1 x2 v5 1 M)
    else
      mm_shares_J204 x1 x2 v5 0 M
def mm_unload_J50 (x1 : Int32) (x2 : Int32) (M : MM) : Option MM :=
  Option.bind (mm_goTo x1 (x2 + 1) M) fun M55 =>
  some M55
def mm_unload (x1 : Int32) (x2 : Int32) (M : MM) : Option MM :=
  Option.bind (mm_isCalm x1 M) fun v2 =>
  if v2 = 0 then
    (Option.bind (mm_stalls x1 1 M) fun M11 =>
    some M11)
  else
    Option.bind (mAld M 61 x1) fun v20 =>
    Option.bind (mAst M 61 x1 0) fun M28 =>
    Option.bind (mPut M28 81 ((M28 81 0) + v20)) fun M36 =>
    if v20 ≤ 0 then
      (mm_unload_J50 x1 x2 M36)
    else
      Option.bind (mm_note 5 x1 v20 M36) fun M47 =>
      mm_unload_J50 x1 x2 M47
def mm_worked_J271 (x1 : Int32) (x2 : Int32) (M : MM) : Option MM :=
  Option.bind (mm_goTo x1 (x2 + 1) M) fun M276 =>
  some M276
def mm_worked_J267 (s1 : Int32) (s2 : Int32) (M : MM) : Option MM :=
  Option.bind (mm_goTo s1 s2 M) fun M267 =>
  some M267
def mm_worked_J120 (x1 : Int32) (x2 : Int32) (x3 : Int32) (x4 : Int32) (M : MM) : Option MM :=
  if x4 = 4 then
    (Option.bind (mAst M 57 x1 x3) fun M178 =>
    mm_worked_J271 x1 x2 M178)
  else
  if x4 = 5 then
    (Option.bind (mAst M 59 x1 x3) fun M188 =>
    mm_worked_J271 x1 x2 M188)
  else
  if x4 = 6 then
    (Option.bind (mAst M 62 x1 x3) fun M198 =>
    mm_worked_J271 x1 x2 M198)
  else
  if x4 = 7 then
    (Option.bind (mAst M 63 x1 x3) fun M208 =>
    mm_worked_J271 x1 x2 M208)
  else
  if x4 = 50 then
    (Option.bind (mAld M 38 x2) fun v224 =>
    Option.bind (mAst M 71 ((4 * x1) + v224) x3) fun M227 =>
    mm_worked_J271 x1 x2 M227)
  else
    Option.bind (mAld M 39 x2) fun v244 =>
    Option.bind (mAst M 72 ((11 * x1) + v244) x3) fun M247 =>
    if 1 ≤ x3 then
      (mm_worked_J267 x1 (x2 + 1) M247)
    else
      Option.bind (mAld M247 38 x2) fun v260 =>
      mm_worked_J267 x1 v260 M247
def mm_worked_J91 (x1 : Int32) (x2 : Int32) (x3 : Int32) (x4 : Int32) (M : MM) : Option MM :=
  if 5 < x4 then
    (mm_worked_J120 x1 x2 x3 x4 M)
  else
    if x3 = 0 then
      (mm_worked_J120 x1 x2 x3 x4 M)
    else
      Option.bind (mAld M 64 x1) fun v106 =>
      if v106 ≤ 1000 then
        (mm_worked_J120 x1 x2 x3 x4 M)
      else
        Option.bind (mm_stalls x1 5 M) fun M116 =>
        some M116
def mm_worked_J84 (x1 : Int32) (M : MM) : Option MM :=
  Option.bind (mm_stalls x1 2 M) fun M87 =>
  some M87
def mm_worked_J63 (x1 : Int32) (x2 : Int32) (x3 : Int32) (x4 : Int32) (x5 : Int32) (s0 : Int32) (M : MM) : Option MM :=
  if 7 < x4 then
    (mm_worked_J91 x1 x2 x3 x4 M)
  else
    if x3 < x5 then
      (mm_worked_J84 x1 M)
    else
      if x3 ≤ s0 then
        (mm_worked_J91 x1 x2 x3 x4 M)
      else
        mm_worked_J84 x1 M
def mm_worked_J47 (x1 : Int32) (x2 : Int32) (x3 : Int32) (x4 : Int32) (s0 : Int32) (M : MM) : Option MM :=
  if x4 = 5 then
    (mm_worked_J63 x1 x2 x3 x4 s0 1000 M)
  else
    mm_worked_J63 x1 x2 x3 x4 s0 100 M
def mm_worked (x1 : Int32) (x2 : Int32) (M : MM) : Option MM :=
  Option.bind (mAld M 37 x2) fun v6 =>
  Option.bind (mm_value v6 x1 M) fun q8 =>
  if (q8.2 89 0) = 0 then
    (Option.bind (mAld q8.2 35 x2) fun v32 =>
    if v32 = 4 then
      (mm_worked_J47 x1 x2 q8.1 v32 (-100) q8.2)
    else
      mm_worked_J47 x1 x2 q8.1 v32 0 q8.2)
  else
    Option.bind (mm_stalls x1 6 q8.2) fun M23 =>
    some M23
def mm_does_J32 (x1 : Int32) (x2 : Int32) (M : MM) : Option (Int32 × MM) :=
  Option.bind (mm_takes x1 x2 M) fun q35 =>
  mZr q35.1 (q35.1, q35.2)
def mm_does_J185 (s1 : Int32) (s2 : Int32) (M : MM) : Option (Int32 × MM) :=
  Option.bind (mm_goTo s1 (s2 + 1) M) fun M187 =>
  mZr 1 (1, M187)
def mm_does_J276 (s1 : Int32) (s2 : Int32) (M : MM) : Option (Int32 × MM) :=
  Option.bind (mm_goTo s1 s2 M) fun M276 =>
  mZr 1 (1, M276)
def mm_does_J58 (x1 : Int32) (x2 : Int32) (x3 : Int32) (M : MM) : Option (Int32 × MM) :=
  if x3 = 9 then
    (Option.bind (mm_unload x1 x2 M) fun M284 =>
    mZr 1 (1, M284))
  else
  if x3 = 18 then
    (if x3 = 53 then
      (Option.bind (mAld M 37 x2) fun v180 =>
      mm_does_J185 x1 v180 M)
    else
      mm_does_J185 x1 x2 M)
  else
  if x3 = 19 then
    (Option.bind (mAld M 37 x2) fun v233 =>
    Option.bind (mm_isTrue v233 x1 M) fun q235 =>
    if (q235.2 89 0) = 0 then
      (if q235.1 = 0 then
        (Option.bind (mAld q235.2 38 x2) fun v275 =>
        mm_does_J276 x1 v275 q235.2)
      else
        mm_does_J276 x1 (x2 + 1) q235.2)
    else
      Option.bind (mm_stalls x1 6 q235.2) fun M251 =>
      mZr 1 (1, M251))
  else
  if x3 = 20 then
    (Option.bind (mm_goTo x1 (x2 + 1) M) fun M197 =>
    mZr 1 (1, M197))
  else
  if x3 = 21 then
    (Option.bind (mAld M 37 x2) fun v213 =>
    Option.bind (mAld M 38 v213) fun v214 =>
    Option.bind (mm_goTo x1 v214 M) fun M215 =>
    mZr 1 (1, M215))
  else
  if x3 = 22 then
    (Option.bind (mm_isOver x1 M) fun M222 =>
    mZr 0 (0, M222))
  else
  if x3 = 52 then
    (Option.bind (mAld M 39 x2) fun v145 =>
    Option.bind (mAld M 72 ((11 * x1) + v145)) fun v148 =>
    Option.bind (mAst M 72 ((11 * x1) + v145) (v148 - 1)) fun M151 =>
    Option.bind (mAld M151 37 x2) fun v159 =>
    Option.bind (mm_goTo x1 (v159 + 1) M151) fun M162 =>
    mZr 1 (1, M162))
  else
  if x3 = 53 then
    (if x3 = 53 then
      (Option.bind (mAld M 37 x2) fun v180 =>
      mm_does_J185 x1 v180 M)
    else
      mm_does_J185 x1 x2 M)
  else
    Option.bind (mm_worked x1 x2 M) fun M292 =>
    mZr 1 (1, M292)
def mm_does (x1 : Int32) (M : MM) : Option (Int32 × MM) :=
  Option.bind (mAld M 67 x1) fun v5 =>
  Option.bind (mAld M 35 v5) fun v12 =>
  if v12 = 8 then
    (mm_does_J32 x1 v5 M)
  else
    if v12 = 10 then
      (mm_does_J32 x1 v5 M)
    else
      if v12 = 11 then
        (mm_does_J32 x1 v5 M)
      else
        if v12 < 12 then
          (mm_does_J58 x1 v5 v12 M)
        else
          if 16 < v12 then
            (mm_does_J58 x1 v5 v12 M)
          else
            Option.bind (mm_shares x1 v5 M) fun q54 =>
            mZr q54.1 (q54.1, q54.2)
def mm_goesOn_J89 (k44 : Int32 → Int32 → Int32 → MM → Option MM) (x1 : Int32) (x2 : Int32) (s0 : Int32) (M : MM) : Option MM :=
  k44 x1 x2 s0 M
def mm_goesOn_J88 (k44 : Int32 → Int32 → Int32 → MM → Option MM) (x1 : Int32) (x2 : Int32) (M : MM) : Option MM :=
  mm_goesOn_J89 k44 x1 x2 0 M
def mm_goesOn_B44 (k44 : Int32 → Int32 → Int32 → MM → Option MM) (x1 : Int32) (x2 : Int32) (x3 : Int32) (M : MM) : Option MM :=
  if x3 = 0 then
    (some M)
  else
    if 40 ≤ x2 then
      (some M)
    else
      Option.bind (mAld M 68 x1) fun v63 =>
      Option.bind (mAst M 68 x1 (v63 + 1)) fun M66 =>
      Option.bind (mm_does x1 M66) fun q69 =>
      if q69.1 = 0 then
        (mm_goesOn_J88 k44 x1 (x2 + 1) q69.2)
      else
        Option.bind (mAld q69.2 65 x1) fun v80 =>
        if v80 = 0 then
          (mm_goesOn_J89 k44 x1 (x2 + 1) 1 q69.2)
        else
          mm_goesOn_J88 k44 x1 (x2 + 1) q69.2
def mm_goesOn_L44 : Nat → Int32 → Int32 → Int32 → MM → Option MM
  | 0 => fun _ _ _ _ => none
  | n + 1 => mm_goesOn_B44 (mm_goesOn_L44 n)
def mm_goesOn_J16 (x1 : Int32) (x2 : Int32) (s0 : Int32) (M : MM) : Option MM :=
  if s0 = 0 then
    (mm_goesOn_L44 gF x1 x2 s0 M)
  else
    Option.bind (mAld M 67 x1) fun v30 =>
    Option.bind (mAld M 35 v30) fun v31 =>
    if v31 = 54 then
      (Option.bind (mm_isOver x1 M) fun M39 =>
      mm_goesOn_L44 gF x1 x2 0 M39)
    else
      mm_goesOn_L44 gF x1 x2 s0 M
def mm_goesOn (x1 : Int32) (M : MM) : Option MM :=
  Option.bind (mAld M 65 x1) fun v7 =>
  if v7 = 0 then
    (mm_goesOn_J16 x1 0 1 M)
  else
    mm_goesOn_J16 x1 0 0 M
def mm_towards (x0 : Int32) (x1 : Int32) (x2 : Int32) (x3 : Int32) (M : MM) : Option Int32 :=
  if x1 ≤ x0 then
    (if (x0 - x1) ≤ x3 then
      (some x1)
    else
      some (x0 - x3))
  else
    if (x1 - x0) ≤ x2 then
      (some x1)
    else
      some (x0 + x2)
def mm_sizeOf (x0 : Int32) (M : MM) : Option Int32 :=
  if 0 ≤ x0 then
    (some x0)
  else
    some (-x0)
def mm_eases_J211 (x1 : Int32) (x2 : Int32) (M : MM) : Option MM :=
  if x2 = 3 then
    (Option.bind (mAld M 63 x1) fun v221 =>
    Option.bind (mAld M 56 x1) fun v227 =>
    Option.bind (mm_sizeOf v227 M) fun v228 =>
    if v221 ≤ v228 then
      (some M)
    else
      Option.bind (mAld M 56 x1) fun v244 =>
      Option.bind (mm_sizeOf v244 M) fun v245 =>
      Option.bind (mAst M 63 x1 v245) fun M248 =>
      some M248)
  else
    some M
def mm_eases_J171 (x1 : Int32) (x2 : Int32) (x3 : Int32) (s0 : Int32) (M : MM) : Option MM :=
  Option.bind (mAld M 59 x1) fun v184 =>
  Option.bind (mAld M 30 x1) fun v190 =>
  Option.bind (mm_towards x3 v184 v190 s0 M) fun v193 =>
  Option.bind (mAst M 58 x1 v193) fun M196 =>
  Option.bind (mAld M196 58 x1) fun v207 =>
  Option.bind (mAst M196 60 x1 (v207 - x3)) fun M210 =>
  mm_eases_J211 x1 x2 M210
def mm_eases_J165 (x1 : Int32) (x2 : Int32) (x3 : Int32) (M : MM) : Option MM :=
  Option.bind (mAld M 30 x1) fun v170 =>
  mm_eases_J171 x1 x2 x3 v170 M
def mm_eases_J117 (x1 : Int32) (x2 : Int32) (x3 : Int32) (M : MM) : Option MM :=
  Option.bind (mm_has x1 2 M) fun v120 =>
  if v120 = 0 then
    (mm_eases_J211 x1 x2 M)
  else
    if x2 = 5 then
      (Option.bind (mAld M 30 x1) fun v137 =>
      mm_eases_J171 x1 x2 x3 (2 * v137) M)
    else
      if x2 = 2 then
        (Option.bind (mAld M 56 x1) fun v152 =>
        Option.bind (mm_sizeOf v152 M) fun v153 =>
        if v153 ≤ 30 then
          (mm_eases_J165 x1 x2 x3 M)
        else
          mm_eases_J171 x1 x2 x3 0 M)
      else
        mm_eases_J165 x1 x2 x3 M
def mm_eases_J90 (x1 : Int32) (x2 : Int32) (x3 : Int32) (s0 : Int32) (M : MM) : Option MM :=
  Option.bind (mAld M 56 x1) fun v102 =>
  Option.bind (mAld M 57 x1) fun v108 =>
  Option.bind (mm_towards v102 v108 s0 s0 M) fun v113 =>
  Option.bind (mAst M 56 x1 v113) fun M116 =>
  mm_eases_J117 x1 x2 x3 M116
def mm_eases_J76 (x1 : Int32) (x2 : Int32) (x3 : Int32) (s0 : Int32) (M : MM) : Option MM :=
  if 1 ≤ s0 then
    (mm_eases_J90 x1 x2 x3 s0 M)
  else
    mm_eases_J90 x1 x2 x3 1 M
def mm_eases_J70 (x1 : Int32) (x2 : Int32) (x3 : Int32) (M : MM) : Option MM :=
  Option.bind (mAld M 28 x1) fun v75 =>
  mm_eases_J76 x1 x2 x3 v75 M
def mm_eases (x1 : Int32) (M : MM) : Option MM :=
  Option.bind (mAld M 25 x1) fun v5 =>
  Option.bind (mAld M 58 x1) fun v12 =>
  if v5 = 8 then
    (Option.bind (mAld M 26 x1) fun v34 =>
    Option.bind (mAld M 56 v34) fun v35 =>
    Option.bind (mAst M 56 x1 v35) fun M36 =>
    mm_eases_J117 x1 v5 v12 M36)
  else
    Option.bind (mm_has x1 1 M) fun v43 =>
    if v43 = 0 then
      (mm_eases_J117 x1 v5 v12 M)
    else
      if v5 = 7 then
        (if v12 ≤ 0 then
          (mm_eases_J70 x1 v5 v12 M)
        else
          Option.bind (mAld M 28 x1) fun v64 =>
          mm_eases_J76 x1 v5 v12 (v64 / 2) M)
      else
        mm_eases_J70 x1 v5 v12 M
def mm_draw_J116 (x1 : Int32) (x2 : Int32) (x3 : Int32) (x4 : Int32) (s0 : Int32) (M : MM) : Option Int32 :=
  Option.bind (mAld M 25 x1) fun v123 =>
  if v123 = 2 then
    (if x2 ≤ x3 then
      (some x3)
    else
      some x2)
  else
  if v123 = 7 then
    (if x4 ≤ s0 then
      (some ((x2 + x3) + s0))
    else
      some ((x2 + x3) + x4))
  else
  if v123 = 8 then
    (some (x2 / 2))
  else
    some (((x2 + x3) + x4) + s0)
def mm_draw_J92 (x1 : Int32) (x2 : Int32) (x3 : Int32) (s0 : Int32) (M : MM) : Option Int32 :=
  Option.bind (mm_has x1 16 M) fun v98 =>
  if v98 = 0 then
    (mm_draw_J116 x1 x2 x3 s0 0 M)
  else
    Option.bind (mAld M 63 x1) fun v109 =>
    mm_draw_J116 x1 x2 x3 s0 (v109 / 2) M
def mm_draw_J61 (x1 : Int32) (x2 : Int32) (s0 : Int32) (M : MM) : Option Int32 :=
  Option.bind (mm_has x1 8 M) fun v66 =>
  if v66 = 0 then
    (mm_draw_J92 x1 x2 s0 0 M)
  else
    Option.bind (mAld M 62 x1) fun v77 =>
    Option.bind (mAld M 32 x1) fun v83 =>
    mm_draw_J92 x1 x2 s0 ((v77 * v83) / 100) M
def mm_draw_J60 (x1 : Int32) (x2 : Int32) (M : MM) : Option Int32 :=
  mm_draw_J61 x1 x2 0 M
def mm_draw_J32 (x1 : Int32) (s0 : Int32) (M : MM) : Option Int32 :=
  Option.bind (mm_has x1 2 M) fun v36 =>
  if v36 = 0 then
    (mm_draw_J60 x1 s0 M)
  else
    Option.bind (mAld M 60 x1) fun v47 =>
    if v47 ≤ 0 then
      (mm_draw_J60 x1 s0 M)
    else
      Option.bind (mAld M 29 x1) fun v56 =>
      mm_draw_J61 x1 s0 v56 M
def mm_draw (x1 : Int32) (M : MM) : Option Int32 :=
  Option.bind (mm_has x1 1 M) fun v3 =>
  if v3 = 0 then
    (mm_draw_J32 x1 0 M)
  else
    Option.bind (mAld M 56 x1) fun v14 =>
    Option.bind (mAld M 27 x1) fun v20 =>
    Option.bind (mm_sizeOf (v14 * v20) M) fun v22 =>
    mm_draw_J32 x1 (v22 / 100) M
def mm_shed_J170 (k45 : Int32 → Int32 → MM → Option MM) (x1 : Int32) (x2 : Int32) (M : MM) : Option MM :=
  k45 x1 (x2 + (-1)) M
def mm_shed_J105 (k45 : Int32 → Int32 → MM → Option MM) (x1 : Int32) (x2 : Int32) (M : MM) : Option MM :=
  Option.bind (mAst M 57 x2 0) fun M111 =>
  Option.bind (mAst M111 59 x2 0) fun M118 =>
  Option.bind (mAst M118 62 x2 0) fun M125 =>
  Option.bind (mAst M125 63 x2 0) fun M132 =>
  Option.bind (mAld M132 86 x2) fun v139 =>
  Option.bind (mAld M132 86 x2) fun v150 =>
  Option.bind (mm_note 3 x2 v150 M132) fun M151 =>
  Option.bind (mAld M151 65 x2) fun v159 =>
  if v159 = 0 then
    (Option.bind (mm_stalls x2 7 M151) fun M167 =>
    mm_shed_J170 k45 (x1 - v139) x2 M167)
  else
    mm_shed_J170 k45 (x1 - v139) x2 M151
def mm_shed_B45 (k45 : Int32 → Int32 → MM → Option MM) (x1 : Int32) (x2 : Int32) (M : MM) : Option MM :=
  if x2 < 0 then
    (some M)
  else
    if x1 ≤ (M 23 0) then
      (some M)
    else
      Option.bind (mAld M 86 x2) fun v62 =>
      if v62 = 0 then
        (mm_shed_J170 k45 x1 x2 M)
      else
        Option.bind (mAld M 57 x2) fun v71 =>
        if v71 = 0 then
          (Option.bind (mAld M 59 x2) fun v80 =>
          if v80 = 0 then
            (Option.bind (mAld M 62 x2) fun v89 =>
            if v89 = 0 then
              (Option.bind (mAld M 63 x2) fun v98 =>
              if v98 = 0 then
                (mm_shed_J170 k45 x1 x2 M)
              else
                mm_shed_J105 k45 x1 x2 M)
            else
              mm_shed_J105 k45 x1 x2 M)
          else
            mm_shed_J105 k45 x1 x2 M)
        else
          mm_shed_J105 k45 x1 x2 M
def mm_shed_L45 : Nat → Int32 → Int32 → MM → Option MM
  | 0 => fun _ _ _ => none
  | n + 1 => mm_shed_B45 (mm_shed_L45 n)
def mm_shed_B4 (k4 : Int32 → Int32 → MM → Option MM) (x1 : Int32) (x2 : Int32) (M : MM) : Option MM :=
  if (M 20 0) ≤ x2 then
    (mm_shed_L45 gF x1 ((M 20 0) - 1) M)
  else
    Option.bind (mm_draw x2 M) fun v19 =>
    Option.bind (mAst M 86 x2 v19) fun M22 =>
    Option.bind (mAld M22 86 x2) fun v29 =>
    k4 (x1 + v29) (x2 + 1) M22
def mm_shed_L4 : Nat → Int32 → Int32 → MM → Option MM
  | 0 => fun _ _ _ => none
  | n + 1 => mm_shed_B4 (mm_shed_L4 n)
def mm_shed (M : MM) : Option MM :=
  mm_shed_L4 gF 0 0 M
def mm_limit (x1 : Int32) (M : MM) : Option Int32 :=
  Option.bind (mAld M 25 x1) fun v5 =>
  if v5 = 0 then
    (some 80)
  else
  if v5 = 1 then
    (some 60)
  else
  if v5 = 2 then
    (some 50)
  else
  if v5 = 3 then
    (some 80)
  else
  if v5 = 4 then
    (some 200)
  else
  if v5 = 5 then
    (some 60)
  else
  if v5 = 6 then
    (some 200)
  else
  if v5 = 7 then
    (some 40)
  else
  if v5 = 8 then
    (some 80)
  else
    some 200
def mm_tear_J47 (x1 : Int32) (x2 : Int32) (s0 : Int32) (M : MM) : Option Int32 :=
  Option.bind (mAld M 25 x1) fun v53 =>
  if v53 = 5 then
    (some (2 * s0))
  else
    some (x2 + s0)
def mm_tear_J46 (x1 : Int32) (x2 : Int32) (M : MM) : Option Int32 :=
  mm_tear_J47 x1 x2 0 M
def mm_tear_J22 (x1 : Int32) (s0 : Int32) (M : MM) : Option Int32 :=
  Option.bind (mm_has x1 2 M) fun v26 =>
  if v26 = 0 then
    (mm_tear_J46 x1 s0 M)
  else
    Option.bind (mAld M 60 x1) fun v37 =>
    if v37 = 0 then
      (mm_tear_J46 x1 s0 M)
    else
      mm_tear_J47 x1 s0 10 M
def mm_tear (x1 : Int32) (M : MM) : Option Int32 :=
  Option.bind (mm_has x1 1 M) fun v3 =>
  if v3 = 0 then
    (mm_tear_J22 x1 0 M)
  else
    Option.bind (mAld M 56 x1) fun v14 =>
    Option.bind (mm_sizeOf v14 M) fun v15 =>
    mm_tear_J22 x1 v15 M
def mm_ticks_J263 (k223 : Int32 → MM → Option MM) (x1 : Int32) (s1 : Int32) (s2 : Int32) (M : MM) : Option MM :=
  Option.bind (mAst M 64 s1 s2) fun M263 =>
  k223 (x1 + 1) M263
def mm_ticks_B223 (k223 : Int32 → MM → Option MM) (x1 : Int32) (M : MM) : Option MM :=
  if (M 20 0) ≤ x1 then
    (some M)
  else
    Option.bind (mAld M 64 x1) fun v236 =>
    Option.bind (mm_tear x1 M) fun v239 =>
    if (v236 + v239) ≤ 9999 then
      (mm_ticks_J263 k223 x1 x1 (v236 + v239) M)
    else
      mm_ticks_J263 k223 x1 x1 9999 M
def mm_ticks_L223 : Nat → Int32 → MM → Option MM
  | 0 => fun _ _ => none
  | n + 1 => mm_ticks_B223 (mm_ticks_L223 n)
def mm_ticks_J215 (k145 : Int32 → MM → Option MM) (x1 : Int32) (M : MM) : Option MM :=
  k145 (x1 + 1) M
def mm_ticks_J186 (k145 : Int32 → MM → Option MM) (x1 : Int32) (M : MM) : Option MM :=
  Option.bind (mAst M 57 x1 0) fun M192 =>
  Option.bind (mAst M192 59 x1 0) fun M199 =>
  Option.bind (mAld M199 65 x1) fun v205 =>
  if v205 = 0 then
    (Option.bind (mm_stalls x1 4 M199) fun M212 =>
    mm_ticks_J215 k145 x1 M212)
  else
    mm_ticks_J215 k145 x1 M199
def mm_ticks_B145 (k145 : Int32 → MM → Option MM) (x1 : Int32) (M : MM) : Option MM :=
  if (M 20 0) ≤ x1 then
    (mm_ticks_L223 gF 0 M)
  else
    Option.bind (mm_limit x1 M) fun v155 =>
    if (M 80 0) ≤ v155 then
      (mm_ticks_J215 k145 x1 M)
    else
      Option.bind (mAld M 57 x1) fun v170 =>
      if v170 = 0 then
        (Option.bind (mAld M 59 x1) fun v179 =>
        if v179 = 0 then
          (mm_ticks_J215 k145 x1 M)
        else
          mm_ticks_J186 k145 x1 M)
      else
        mm_ticks_J186 k145 x1 M
def mm_ticks_L145 : Nat → Int32 → MM → Option MM
  | 0 => fun _ _ => none
  | n + 1 => mm_ticks_B145 (mm_ticks_L145 n)
def mm_ticks_B120 (k120 : Int32 → MM → Option MM) (x1 : Int32) (M : MM) : Option MM :=
  if (M 20 0) ≤ x1 then
    (Option.bind (mm_shed M) fun M140 =>
    mm_ticks_L145 gF 0 M140)
  else
    Option.bind (mm_eases x1 M) fun M130 =>
    k120 (x1 + 1) M130
def mm_ticks_L120 : Nat → Int32 → MM → Option MM
  | 0 => fun _ _ => none
  | n + 1 => mm_ticks_B120 (mm_ticks_L120 n)
def mm_ticks_B99 (k99 : Int32 → MM → Option MM) (x1 : Int32) (M : MM) : Option MM :=
  if (M 20 0) ≤ x1 then
    (mm_ticks_L120 gF 0 M)
  else
    Option.bind (mm_goesOn x1 M) fun M109 =>
    k99 (x1 + 1) M109
def mm_ticks_L99 : Nat → Int32 → MM → Option MM
  | 0 => fun _ _ => none
  | n + 1 => mm_ticks_B99 (mm_ticks_L99 n)
def mm_ticks_J91 (k12 : Int32 → MM → Option MM) (x1 : Int32) (M : MM) : Option MM :=
  k12 (x1 + 1) M
def mm_ticks_J70 (k12 : Int32 → MM → Option MM) (x1 : Int32) (x2 : Int32) (M : MM) : Option MM :=
  Option.bind (mPut M 82 ((M 82 0) + x2)) fun M77 =>
  if x2 ≤ 0 then
    (mm_ticks_J91 k12 x1 M77)
  else
    Option.bind (mm_note 4 x1 x2 M77) fun M88 =>
    mm_ticks_J91 k12 x1 M88
def mm_ticks_B22 (k12 : Int32 → MM → Option MM) (k22 : Int32 → Int32 → MM → Option MM) (x1 : Int32) (x2 : Int32) (M : MM) : Option MM :=
  Option.bind (mAld M 76 x1) fun v27 =>
  if v27 ≤ 0 then
    (mm_ticks_J70 k12 x1 x2 M)
  else
    Option.bind (mAld M 78 (30 * x1)) fun v43 =>
    if ((M 79 0) - v43) ≤ 60 then
      (mm_ticks_J70 k12 x1 x2 M)
    else
      Option.bind (mAld M 77 (30 * x1)) fun v59 =>
      Option.bind (mm_leaves x1 M) fun M64 =>
      k22 x1 (x2 + v59) M64
def mm_ticks_L22 (k12 : Int32 → MM → Option MM) : Nat → Int32 → Int32 → MM → Option MM
  | 0 => fun _ _ _ => none
  | n + 1 => mm_ticks_B22 k12 (mm_ticks_L22 k12 n)
def mm_ticks_B12 (k12 : Int32 → MM → Option MM) (x1 : Int32) (M : MM) : Option MM :=
  if (M 20 0) ≤ x1 then
    (mm_ticks_L99 gF 0 M)
  else
    mm_ticks_L22 k12 gF x1 0 M
def mm_ticks_L12 : Nat → Int32 → MM → Option MM
  | 0 => fun _ _ => none
  | n + 1 => mm_ticks_B12 (mm_ticks_L12 n)
def mm_ticks (M : MM) : Option MM :=
  Option.bind (mPut M 79 ((M 79 0) + 1)) fun M7 =>
  mm_ticks_L12 gF 0 M7
def mm_tick_B47 (k47 : Int32 → Int32 → Int32 → MM → Option (Int32 × MM)) (x1 : Int32) (x2 : Int32) (x3 : Int32) (M : MM) : Option (Int32 × MM) :=
  if x1 ≤ x3 then
    (some (((M 84 0) - x2), M))
  else
    Option.bind (mm_ticks M) fun M53 =>
    k47 x1 x2 (x3 + 1) M53
def mm_tick_L47 : Nat → Int32 → Int32 → Int32 → MM → Option (Int32 × MM)
  | 0 => fun _ _ _ _ => none
  | n + 1 => mm_tick_B47 (mm_tick_L47 n)
def mm_tick_J28 (x1 : Int32) (s1 : Int32) (M : MM) : Option (Int32 × MM) :=
  Option.bind (mPut M 90 s1) fun M28 =>
  if (M28 90 0) = 0 then
    (mm_tick_L47 gF x1 (M28 84 0) 0 M28)
  else
    some (0, M28)
def mm_tick_J23 (x1 : Int32) (M : MM) : Option (Int32 × MM) :=
  mm_tick_J28 x1 2 M
def mm_tick (x1 : Int32) (M : MM) : Option (Int32 × MM) :=
  if (M 19 0) = 0 then
    (mm_tick_J28 x1 1 M)
  else
    if x1 < 1 then
      (mm_tick_J23 x1 M)
    else
      if x1 ≤ 100 then
        (mm_tick_J28 x1 0 M)
      else
        mm_tick_J23 x1 M
def mm_measure_J24 (x1 : Int32) (x2 : Int32) (s1 : Int32) (M : MM) : Option (Int32 × MM) :=
  Option.bind (mm_may s1 1 M) fun q25 =>
  if q25.1 = 0 then
    (some (0, q25.2))
  else
    if x2 = 0 then
      (Option.bind (mAld q25.2 25 x1) fun v93 =>
      some (v93, q25.2))
    else
    if x2 = 1 then
      (Option.bind (mAld q25.2 56 x1) fun v100 =>
      some (v100, q25.2))
    else
    if x2 = 2 then
      (Option.bind (mAld q25.2 57 x1) fun v107 =>
      some (v107, q25.2))
    else
    if x2 = 3 then
      (Option.bind (mAld q25.2 58 x1) fun v114 =>
      some (v114, q25.2))
    else
    if x2 = 4 then
      (Option.bind (mAld q25.2 59 x1) fun v121 =>
      some (v121, q25.2))
    else
    if x2 = 5 then
      (Option.bind (mAld q25.2 61 x1) fun v128 =>
      some (v128, q25.2))
    else
    if x2 = 6 then
      (Option.bind (mAld q25.2 62 x1) fun v135 =>
      some (v135, q25.2))
    else
    if x2 = 7 then
      (Option.bind (mAld q25.2 63 x1) fun v142 =>
      some (v142, q25.2))
    else
    if x2 = 8 then
      (Option.bind (mAld q25.2 64 x1) fun v149 =>
      some (v149, q25.2))
    else
    if x2 = 9 then
      (Option.bind (mm_queue x1 q25.2) fun v153 =>
      some (v153, q25.2))
    else
      Option.bind (mAld q25.2 31 x1) fun v162 =>
      some (v162, q25.2)
def mm_measure_J23 (x1 : Int32) (x2 : Int32) (M : MM) : Option (Int32 × MM) :=
  mm_measure_J24 x1 x2 0 M
def mm_measure (x1 : Int32) (x2 : Int32) (M : MM) : Option (Int32 × MM) :=
  Option.bind (mm_isRide x1 M) fun v3 =>
  if v3 = 0 then
    (mm_measure_J23 x1 x2 M)
  else
    if x2 < 0 then
      (mm_measure_J23 x1 x2 M)
    else
      if 10 < x2 then
        (mm_measure_J23 x1 x2 M)
      else
        mm_measure_J24 x1 x2 1 M
def mm_noise_J149 (x4 : Int32) (s0 : Int32) (M : MM) : Option Int32 :=
  if s0 ≤ x4 then
    (some x4)
  else
    some s0
def mm_noise_J69 (x1 : Int32) (x2 : Int32) (x3 : Int32) (s0 : Int32) (M : MM) : Option Int32 :=
  Option.bind (mAld M 25 x1) fun v76 =>
  if v76 = 3 then
    (Option.bind (mAld M 56 x1) fun v117 =>
    if v117 = 0 then
      (some s0)
    else
      some (s0 + 10))
  else
  if v76 = 6 then
    (some (s0 / 2))
  else
  if v76 = 8 then
    (some 0)
  else
    if x2 ≤ x3 then
      (mm_noise_J149 s0 x3 M)
    else
      mm_noise_J149 s0 x2 M
def mm_noise_J48 (x1 : Int32) (x2 : Int32) (s0 : Int32) (M : MM) : Option Int32 :=
  Option.bind (mm_has x1 16 M) fun v53 =>
  if v53 = 0 then
    (mm_noise_J69 x1 x2 s0 0 M)
  else
    Option.bind (mAld M 63 x1) fun v64 =>
    mm_noise_J69 x1 x2 s0 v64 M
def mm_noise_J47 (x1 : Int32) (x2 : Int32) (M : MM) : Option Int32 :=
  mm_noise_J48 x1 x2 0 M
def mm_noise_J24 (x1 : Int32) (s0 : Int32) (M : MM) : Option Int32 :=
  Option.bind (mm_has x1 2 M) fun v28 =>
  if v28 = 0 then
    (mm_noise_J47 x1 s0 M)
  else
    Option.bind (mAld M 60 x1) fun v39 =>
    if v39 = 0 then
      (mm_noise_J47 x1 s0 M)
    else
      mm_noise_J48 x1 s0 5 M
def mm_noise (x1 : Int32) (M : MM) : Option Int32 :=
  Option.bind (mm_has x1 1 M) fun v3 =>
  if v3 = 0 then
    (mm_noise_J24 x1 0 M)
  else
    Option.bind (mAld M 56 x1) fun v14 =>
    Option.bind (mm_sizeOf v14 M) fun v15 =>
    mm_noise_J24 x1 (v15 / 2) M
def mm_says_J23 (x1 : Int32) (x2 : Int32) (s1 : Int32) (M : MM) : Option (Int32 × MM) :=
  Option.bind (mm_may s1 1 M) fun q24 =>
  if q24.1 = 0 then
    (some (0, q24.2))
  else
    if x2 = 0 then
      (Option.bind (mm_draw x1 q24.2) fun v66 =>
      some (v66, q24.2))
    else
    if x2 = 1 then
      (Option.bind (mm_noise x1 q24.2) fun v72 =>
      some (v72, q24.2))
    else
    if x2 = 2 then
      (Option.bind (mm_tear x1 q24.2) fun v78 =>
      some (v78, q24.2))
    else
    if x2 = 3 then
      (Option.bind (mm_isCalm x1 q24.2) fun v84 =>
      if v84 = 0 then
        (some (0, q24.2))
      else
        some (1, q24.2))
    else
      Option.bind (mm_limit x1 q24.2) fun v98 =>
      some (v98, q24.2)
def mm_says_J22 (x1 : Int32) (x2 : Int32) (M : MM) : Option (Int32 × MM) :=
  mm_says_J23 x1 x2 0 M
def mm_says (x1 : Int32) (x2 : Int32) (M : MM) : Option (Int32 × MM) :=
  Option.bind (mm_isRide x1 M) fun v3 =>
  if v3 = 0 then
    (mm_says_J22 x1 x2 M)
  else
    if x2 < 0 then
      (mm_says_J22 x1 x2 M)
    else
      if 4 < x2 then
        (mm_says_J22 x1 x2 M)
      else
        mm_says_J23 x1 x2 1 M
def mm_script_J103 (M : MM) : Option (Int32 × MM) :=
  some ((-1), M)
def mm_script_J24 (x1 : Int32) (x2 : Int32) (s1 : Int32) (M : MM) : Option (Int32 × MM) :=
  Option.bind (mm_may s1 1 M) fun q25 =>
  if q25.1 = 0 then
    (some (0, q25.2))
  else
    if x2 = 0 then
      (Option.bind (mAld q25.2 65 x1) fun v69 =>
      some (v69, q25.2))
    else
    if x2 = 1 then
      (Option.bind (mAld q25.2 66 x1) fun v76 =>
      some (v76, q25.2))
    else
    if x2 = 2 then
      (Option.bind (mAld q25.2 65 x1) fun v83 =>
      if v83 = 0 then
        (Option.bind (mAld q25.2 67 x1) fun v96 =>
        Option.bind (mAld q25.2 35 v96) fun v97 =>
        if v97 = 54 then
          (mm_script_J103 q25.2)
        else
          Option.bind (mAld q25.2 67 x1) fun v116 =>
          Option.bind (mAld q25.2 36 v116) fun v117 =>
          some (v117, q25.2))
      else
        mm_script_J103 q25.2)
    else
    if x2 = 3 then
      (Option.bind (mAld q25.2 68 x1) fun v124 =>
      some (v124, q25.2))
    else
      Option.bind (mAld q25.2 71 (((4 * x1) + x2) - 4)) fun v137 =>
      some (v137, q25.2)
def mm_script_J23 (x1 : Int32) (x2 : Int32) (M : MM) : Option (Int32 × MM) :=
  mm_script_J24 x1 x2 0 M
def mm_script (x1 : Int32) (x2 : Int32) (M : MM) : Option (Int32 × MM) :=
  Option.bind (mm_isRide x1 M) fun v3 =>
  if v3 = 0 then
    (mm_script_J23 x1 x2 M)
  else
    if x2 < 0 then
      (mm_script_J23 x1 x2 M)
    else
      if 7 < x2 then
        (mm_script_J23 x1 x2 M)
      else
        mm_script_J24 x1 x2 1 M
def mm_free_J18 (x1 : Int32) (s1 : Int32) (M : MM) : Option (Int32 × MM) :=
  Option.bind (mm_may s1 1 M) fun q19 =>
  if q19.1 = 0 then
    (some (0, q19.2))
  else
    Option.bind (mAld q19.2 74 x1) fun v30 =>
    some (v30, q19.2)
def mm_free_J17 (x1 : Int32) (M : MM) : Option (Int32 × MM) :=
  mm_free_J18 x1 0 M
def mm_free (x1 : Int32) (M : MM) : Option (Int32 × MM) :=
  if x1 < 0 then
    (mm_free_J17 x1 M)
  else
    if (M 21 0) ≤ x1 then
      (mm_free_J17 x1 M)
    else
      mm_free_J18 x1 1 M
def mm_isUp_J18 (x1 : Int32) (s1 : Int32) (M : MM) : Option (Int32 × MM) :=
  Option.bind (mm_may s1 1 M) fun q19 =>
  if q19.1 = 0 then
    (mZr 0 (0, q19.2))
  else
    Option.bind (mAld q19.2 75 x1) fun v30 =>
    if v30 = 0 then
      (mZr 0 (0, q19.2))
    else
      mZr 1 (1, q19.2)
def mm_isUp_J17 (x1 : Int32) (M : MM) : Option (Int32 × MM) :=
  mm_isUp_J18 x1 0 M
def mm_isUp (x1 : Int32) (M : MM) : Option (Int32 × MM) :=
  if x1 < 0 then
    (mm_isUp_J17 x1 M)
  else
    if (M 22 0) ≤ x1 then
      (mm_isUp_J17 x1 M)
    else
      mm_isUp_J18 x1 1 M
def mm_set_J42 (x1 : Int32) (x2 : Int32) (s0 : Int32) (M : MM) : Option (Int32 × MM) :=
  Option.bind (mZst M 75 x1 x2) fun M49 =>
  mZr s0 (s0, M49)
def mm_set_J18 (x1 : Int32) (x2 : Int32) (s1 : Int32) (M : MM) : Option (Int32 × MM) :=
  Option.bind (mm_may s1 1 M) fun q19 =>
  if q19.1 = 0 then
    (mZr 0 (0, q19.2))
  else
    Option.bind (mAld q19.2 75 x1) fun v32 =>
    if v32 = x2 then
      (mm_set_J42 x1 x2 0 q19.2)
    else
      mm_set_J42 x1 x2 1 q19.2
def mm_set_J17 (x1 : Int32) (x2 : Int32) (M : MM) : Option (Int32 × MM) :=
  mm_set_J18 x1 x2 0 M
def mm_set (x1 : Int32) (x2 : Int32) (M : MM) : Option (Int32 × MM) :=
  if x1 < 0 then
    (mm_set_J17 x1 x2 M)
  else
    if (M 22 0) ≤ x1 then
      (mm_set_J17 x1 x2 M)
    else
      mm_set_J18 x1 x2 1 M
def mm_total_J76 (k29 : Int32 → Int32 → Int32 → MM → Option (Int32 × MM)) (x1 : Int32) (x3 : Int32) (s0 : Int32) (M : MM) : Option (Int32 × MM) :=
  k29 x1 s0 (x3 + 1) M
def mm_total_J75 (k29 : Int32 → Int32 → Int32 → MM → Option (Int32 × MM)) (x1 : Int32) (x2 : Int32) (x3 : Int32) (M : MM) : Option (Int32 × MM) :=
  mm_total_J76 k29 x1 x3 x2 M
def mm_total_B29 (k29 : Int32 → Int32 → Int32 → MM → Option (Int32 × MM)) (x1 : Int32) (x2 : Int32) (x3 : Int32) (M : MM) : Option (Int32 × MM) :=
  if (M 20 0) ≤ x3 then
    (if x1 = 0 then
      (some ((M 79 0), M))
    else
    if x1 = 1 then
      (some ((M 81 0), M))
    else
    if x1 = 2 then
      (some ((M 82 0), M))
    else
    if x1 = 3 then
      (some ((M 83 0), M))
    else
    if x1 = 4 then
      (some ((M 84 0), M))
    else
    if x1 = 5 then
      (some (x2, M))
    else
    if x1 = 6 then
      (some (x2, M))
    else
    if x1 = 7 then
      (some ((M 80 0), M))
    else
      some (x2, M))
  else
    if x1 = 5 then
      (Option.bind (mm_draw x3 M) fun v45 =>
      mm_total_J76 k29 x1 x3 (x2 + v45) M)
    else
      if x1 = 6 then
        (Option.bind (mm_noise x3 M) fun v60 =>
        if v60 ≤ x2 then
          (mm_total_J75 k29 x1 x2 x3 M)
        else
          Option.bind (mm_noise x3 M) fun v69 =>
          mm_total_J76 k29 x1 x3 v69 M)
      else
        mm_total_J75 k29 x1 x2 x3 M
def mm_total_L29 : Nat → Int32 → Int32 → Int32 → MM → Option (Int32 × MM)
  | 0 => fun _ _ _ _ => none
  | n + 1 => mm_total_B29 (mm_total_L29 n)
def mm_total_J16 (x1 : Int32) (s1 : Int32) (M : MM) : Option (Int32 × MM) :=
  Option.bind (mm_may s1 1 M) fun q17 =>
  if q17.1 = 0 then
    (some (0, q17.2))
  else
    mm_total_L29 gF x1 0 0 q17.2
def mm_total_J15 (x1 : Int32) (M : MM) : Option (Int32 × MM) :=
  mm_total_J16 x1 0 M
def mm_total (x1 : Int32) (M : MM) : Option (Int32 × MM) :=
  if x1 < 0 then
    (mm_total_J15 x1 M)
  else
    if 7 < x1 then
      (mm_total_J15 x1 M)
    else
      mm_total_J16 x1 1 M
def mm_log_J33 (x1 : Int32) (x2 : Int32) (s0 : Int32) (M : MM) : Option (Int32 × MM) :=
  Option.bind (mm_may s0 1 M) fun q37 =>
  if q37.1 = 0 then
    (some (0, q37.2))
  else
    Option.bind (mAld q37.2 85 ((4 * x1) + x2)) fun v52 =>
    some (v52, q37.2)
def mm_log_J32 (x1 : Int32) (x2 : Int32) (M : MM) : Option (Int32 × MM) :=
  mm_log_J33 x1 x2 0 M
def mm_log (x1 : Int32) (x2 : Int32) (M : MM) : Option (Int32 × MM) :=
  if x1 < 0 then
    (mm_log_J32 x1 x2 M)
  else
    if (M 84 0) ≤ x1 then
      (mm_log_J32 x1 x2 M)
    else
      if 400 ≤ x1 then
        (mm_log_J32 x1 x2 M)
      else
        if x2 < 0 then
          (mm_log_J32 x1 x2 M)
        else
          if 3 < x2 then
            (mm_log_J32 x1 x2 M)
          else
            mm_log_J33 x1 x2 1 M
