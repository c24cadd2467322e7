set_option maxRecDepth 100000
/-! The model's functions over its ints alone: its objects and references stand from the constructor on. -/
def kM : Nat → Nat := fun j => if j = 0 then 8 else if j = 28 then 103 else if j < 33 then 100 else 0
def rM : Nat → Nat → Option Nat := fun j x => if j = 0 then ([some 1, some 2, some 3, some 4, some 5, some 6, some 7, some 8, none, none, some 9, some 10, some 11, some 12, none, some 13, none, some 14, none, none, none, none, none, none, none, some 15, some 16, some 17, some 18, some 19, some 20, some 21, some 22, some 23, none, none, some 24, none, some 25, some 26, some 27, some 28, some 29, some 30, some 31, some 32, none].getD x none) else none
def nM : Nat → Nat := fun j => [0, 4, 124, 2, 17, 17, 17, 2, 48, 8, 8, 8, 48, 16, 2, 16, 16, 16, 2, 24, 24, 48, 384, 384, 2, 8, 8, 240, 4, 4, 4, 240, 60].getD j 0
def mM (I : MI) : LH := (kM, I, rM, nM, 33)
def mE {α : Type} (o : Option (α × MI)) : Rs α := match o with
  | none => none
  | some (v, I) => some (v, mM I, 0, 0)
def md {γ : Type} (n j : Nat) (x : Int32) (I : MI) (k : Int32 → Option γ) : Option γ := if ¬ (x < 0 ∨ n ≤ x.toNatClampNeg) then k (I j x.toNatClampNeg) else none
def mw {γ : Type} (n j : Nat) (x v : Int32) (I : MI) (k : MI → Option γ) : Option γ := if ¬ (x < 0 ∨ n ≤ x.toNatClampNeg) then k (fw_u2 I j x.toNatClampNeg v) else none
def mg {γ : Type} (I : MI) (s : Nat) (k : Int32 → Option γ) : Option γ := k (I 0 s)
def mp {γ : Type} (I : MI) (s : Nat) (v : Int32) (k : MI → Option γ) : Option γ := k (fw_u2 I 0 s v)
def mb {γ : Type} (v : Int32) (k : Option γ) : Option γ := if v = 0 ∨ v = 1 then k else none
def mz {γ : Type} (v : Int64) (k : Option γ) : Option γ := if v = 0 then none else k
def mc {α γ : Type} (o : Option (α × MI)) (k : α → MI → Option γ) : Option γ := match o with
  | none => none
  | some (v, I) => k v I
def g_X5_in (x0 : Int32) (x1 : Int32) (x2 : Int32) (I : MI) : Option (Int32 × MI) :=
  if x0 < x1 then (
    some ((nI 0), I)
  ) else (
    if x2 < x0 then (
      some ((nI 0), I)
    ) else (
      some ((nI 1), I)
    )
  )
def g_X5_byteAt (x1 : Int32) (x2 : Int32) (I : MI) : Option (Int32 × MI) :=
  md 4 1 x1 I fun v3 =>
  if v3 ≤ x2 then (
    some ((-nI 1), I)
  ) else (
    md 124 2 (((nI 31) * x1) + x2) I fun v6 =>
    some (v6, I)
  )
def g_X5_callBy (x0 : Int32) (I : MI) : Option (Int32 × MI) :=
  if x0 = (nI 114) then (
    some ((nI 0), I)
  ) else (
    if x0 = (nI 112) then (
      some ((nI 1), I)
    ) else (
      if x0 = (nI 104) then (
        some ((nI 2), I)
      ) else (
        some ((-nI 1), I)
      )
    )
  )
def g_X5_isThereOne (x1 : Int32) (I : MI) : Option (Int32 × MI) :=
  mc (g_X5_in x1 (nI 0) (nI 15) I) fun v2 I1 =>
  if v2 = 0 then (
    some ((nI 0), I1)
  ) else (
    md 2 3 (x1 / (nI 8)) I1 fun v5 =>
    if v5 ≤ (x1 - x1 / (nI 8) * (nI 8)) then (
      some ((nI 0), I1)
    ) else (
      some ((nI 1), I1)
    )
  )
def g_X5_isThree (x0 : Int32) (I : MI) : Option (Int32 × MI) :=
  mc (g_X5_in x0 (nI 0) (nI 2) I) fun v2 I1 =>
  mb v2 <|
  some (v2, I1)
def g_X5_pullerOf (x1 : Int32) (x2 : Int32) (I : MI) : Option (Int32 × MI) :=
  if x2 = 0 then (
    md 17 4 x1 I fun v9 =>
    some (v9, I)
  ) else (
    if x2 = (nI 1) then (
      md 17 5 x1 I fun v6 =>
      some (v6, I)
    ) else (
      md 17 6 x1 I fun v3 =>
      some (v3, I)
    )
  )
def g_X5_isTwo (x0 : Int32) (I : MI) : Option (Int32 × MI) :=
  mc (g_X5_in x0 (nI 0) (nI 1) I) fun v2 I1 =>
  mb v2 <|
  some (v2, I1)
def g_X5_isBeat (x0 : Int32) (I : MI) : Option (Int32 × MI) :=
  mc (g_X5_in x0 (nI 0) (nI 23) I) fun v2 I1 =>
  mb v2 <|
  some (v2, I1)
def g_X5_mud (x1 : Int32) (I : MI) : Option (Int32 × MI) :=
  mc (g_X5_in x1 (nI 0) (nI 9) I) fun v2 I1 =>
  if v2 = 0 then (
    some ((-nI 2), I1)
  ) else (
    mg I1 8 fun v3 =>
    mp I1 8 x1 fun I4 =>
    some (v3, I4)
  )
def g_X5_event (x1 : Int32) (x2 : Int32) (x3 : Int32) (I : MI) : Option (Int32 × MI) :=
  mc (g_X5_isThree x1 I) fun v2 I1 =>
  if v2 = 0 then (
    some ((-nI 2), I1)
  ) else (
    mc (g_X5_isBeat x2 I1) fun v4 I3 =>
    if v4 = 0 then (
      some ((-nI 2), I3)
    ) else (
      mc (g_X5_in x3 (nI 0) (nI 15) I3) fun v6 I5 =>
      if v6 = 0 then (
        some ((-nI 2), I5)
      ) else (
        mg I5 9 fun v7 =>
        if v7 = (nI 8) then (
          some ((-nI 4), I5)
        ) else (
          mg I5 9 fun v9 =>
          mw 8 9 v9 x1 I5 fun I11 =>
          mg I11 9 fun v13 =>
          mw 8 10 v13 x2 I11 fun I15 =>
          mg I15 9 fun v17 =>
          mw 8 11 v17 x3 I15 fun I19 =>
          mg I19 9 fun v20 =>
          mp I19 9 (v20 + (nI 1)) fun I21 =>
          mg I21 9 fun v22 =>
          some (v22, I21)
        )
      )
    )
  )
def g_X5_back (I : MI) : Option (Int32 × MI) :=
  mg I 9 fun v1 =>
  if v1 = 0 then (
    some ((-nI 3), I)
  ) else (
    mg I 9 fun v2 =>
    mp I 9 (v2 - (nI 1)) fun I3 =>
    mg I3 9 fun v4 =>
    some (v4, I3)
  )
def g_X5_isSheet (x0 : Int32) (I : MI) : Option (Int32 × MI) :=
  mc (g_X5_in x0 (nI 0) (nI 3) I) fun v2 I1 =>
  mb v2 <|
  some (v2, I1)
def g_X5_meets (x1 : Int32) (I : MI) : Option (Int32 × MI) :=
  mp I 46 x1 fun I1 =>
  some (((-nI 10) - x1), I1)
def g_X5_isHere (x1 : Int32) (I : MI) : Option (Int32 × MI) :=
  mc (g_X5_isThereOne x1 I) fun v2 I1 =>
  if v2 = 0 then (
    some ((nI 0), I1)
  ) else (
    mg I1 16 fun v3 =>
    if x1 = v3 then (
      some ((nI 0), I1)
    ) else (
      some ((nI 1), I1)
    )
  )
def g_X5_isIn (x0 : Int32) (x1 : Int32) (I : MI) : Option (Int32 × MI) :=
  if ((x0 >>> (x1 &&& 31)) &&& (nI 1)) = (nI 1) then (
    some ((nI 1), I)
  ) else (
    some ((nI 0), I)
  )
def g_X5_strength_99 (x1 : Int32) (x3 : Int32) (sx0 : Int32) (sx1 : Int32) (I : MI) : Option (Int32 × MI) :=
  mw 16 15 sx1 sx0 I fun I2 =>
  if x3 = 0 then (
    some ((nI 0), I2)
  ) else (
    md 17 5 x1 I2 fun v5 =>
    some (v5, I2)
  )
def g_X5_strength_56 (x1 : Int32) (x3 : Int32) (sx0 : Int32) (I : MI) : Option (Int32 × MI) :=
  md 16 15 x1 I fun v4 =>
  md 17 6 x1 I fun v7 =>
  if (v4 + sx0) ≤ v7 then (
    md 16 15 x1 I fun v10 =>
    g_X5_strength_99 x1 x3 (v10 + sx0) x1 I
  ) else (
    md 17 6 x1 I fun v13 =>
    g_X5_strength_99 x1 x3 v13 x1 I
  )
def g_X5_strength_177 (x1 : Int32) (x3 : Int32) (I : MI) : Option (Int32 × MI) :=
  md 16 15 x1 I fun v3 =>
  if v3 = 0 then (
    some ((nI 0), I)
  ) else (
    md 16 15 x1 I fun v6 =>
    mw 16 15 x1 (v6 - (nI 1)) I fun I7 =>
    md 17 5 x1 I7 fun v10 =>
    if x3 = 0 then (
      some ((v10 + (nI 0)), I7)
    ) else (
      some ((v10 + (nI 2)), I7)
    )
  )
def g_X5_strength_129 (x1 : Int32) (x2 : Int32) (x3 : Int32) (sx0 : Int32) (I : MI) : Option (Int32 × MI) :=
  if x2 = (nI 2) then (
    md 16 15 x1 I fun v3 =>
    if v3 < sx0 then (
      g_X5_strength_177 x1 x3 I
    ) else (
      md 16 15 x1 I fun v6 =>
      mw 16 15 x1 (v6 - sx0) I fun I7 =>
      md 17 5 x1 I7 fun v10 =>
      if x3 = 0 then (
        some ((((nI 2) * v10) + (nI 0)), I7)
      ) else (
        some ((((nI 2) * v10) + (nI 2)), I7)
      )
    )
  ) else (
    g_X5_strength_177 x1 x3 I
  )
def g_X5_strength_28 (x1 : Int32) (x2 : Int32) (sx0 : Int32) (I : MI) : Option (Int32 × MI) :=
  if x2 = 0 then (
    if sx0 = 0 then (
      md 17 4 x1 I fun v6 =>
      if v6 = (nI 1) then (
        g_X5_strength_56 x1 sx0 (nI 2) I
      ) else (
        g_X5_strength_56 x1 sx0 (nI 1) I
      )
    ) else (
      g_X5_strength_56 x1 sx0 (nI 0) I
    )
  ) else (
    md 17 4 x1 I fun v3 =>
    if v3 = 0 then (
      g_X5_strength_129 x1 x2 sx0 (nI 1) I
    ) else (
      g_X5_strength_129 x1 x2 sx0 (nI 2) I
    )
  )
def g_X5_strength_27 (x1 : Int32) (x2 : Int32) (I : MI) : Option (Int32 × MI) :=
  g_X5_strength_28 x1 x2 (nI 0) I
def g_X5_strength (x1 : Int32) (x2 : Int32) (I : MI) : Option (Int32 × MI) :=
  md 17 4 x1 I fun v3 =>
  if v3 = (nI 2) then (
    md 2 14 (x1 / (nI 8)) I fun v6 =>
    if v6 = x1 then (
      g_X5_strength_28 x1 x2 (nI 1) I
    ) else (
      g_X5_strength_27 x1 x2 I
    )
  ) else (
    g_X5_strength_27 x1 x2 I
  )
def g_X5_goes_102 (x1 : Int32) (sx0 : Int32) (I : MI) : Option (Unit × MI) :=
  mp I 22 sx0 fun I2 =>
  mg I2 22 fun v3 =>
  if v3 = (-nI 1) then (
    mp I2 23 (-nI 1) fun I5 =>
    some ((), I5)
  ) else (
    mp I2 23 x1 fun I4 =>
    some ((), I4)
  )
def g_X5_goes_71 (x1 : Int32) (sx0 : Int32) (sx1 : Int32) (I : MI) : Option (Unit × MI) :=
  mp I 21 (sx1 + sx0) fun I2 =>
  mg I2 21 fun v3 =>
  if v3 < (nI 22) then (
    mg I2 21 fun v4 =>
    if (nI 2) < v4 then (
      g_X5_goes_102 x1 (-nI 1) I2
    ) else (
      g_X5_goes_102 x1 (nI 1) I2
    )
  ) else (
    g_X5_goes_102 x1 (nI 0) I2
  )
def g_X5_goes_52 (x1 : Int32) (x2 : Int32) (x3 : Int32) (sx0 : Int32) (sx1 : Int32) (I : MI) : Option (Unit × MI) :=
  mp I 24 (sx1 + sx0) fun I2 =>
  mg I2 21 fun v3 =>
  if 0 ≤ x2 then (
    g_X5_goes_71 x1 x3 v3 I2
  ) else (
    g_X5_goes_71 x1 (-x3) v3 I2
  )
def g_X5_goes_37 (x1 : Int32) (x2 : Int32) (sx0 : Int32) (I : MI) : Option (Unit × MI) :=
  mg I 24 fun v1 =>
  if x2 = 0 then (
    g_X5_goes_52 x1 x2 sx0 (nI 1) v1 I
  ) else (
    g_X5_goes_52 x1 x2 sx0 (nI 0) v1 I
  )
def g_X5_goes_24 (x1 : Int32) (x2 : Int32) (sx0 : Int32) (I : MI) : Option (Unit × MI) :=
  if (sx0 / (nI 3)) ≤ (nI 3) then (
    g_X5_goes_37 x1 x2 (sx0 / (nI 3)) I
  ) else (
    g_X5_goes_37 x1 x2 (nI 3) I
  )
def g_X5_goes (x1 : Int32) (I : MI) : Option (Unit × MI) :=
  md 2 18 (nI 0) I fun v3 =>
  md 2 18 (nI 1) I fun v6 =>
  if 0 ≤ (v3 - v6) then (
    g_X5_goes_24 x1 (v3 - v6) (v3 - v6) I
  ) else (
    g_X5_goes_24 x1 (v3 - v6) (-(v3 - v6)) I
  )
def g_X5_ofRow (x1 : Int32) (x2 : Int32) (I : MI) : Option (Int32 × MI) :=
  if x2 = (-nI 1) then (
    some (x1, I)
  ) else (
    if x1 ≤ x2 then (
      some ((-nI 1), I)
    ) else (
      md 2 24 x2 I fun v3 =>
      some (v3, I)
    )
  )
def g_X5_seen (x1 : Int32) (x2 : Int32) (I : MI) : Option (Int32 × MI) :=
  mc (g_X5_isBeat x1 I) fun v2 I1 =>
  if v2 = 0 then (
    some ((-nI 2), I1)
  ) else (
    mc (g_X5_in x2 (nI 0) (nI 24) I1) fun v4 I3 =>
    if v4 = 0 then (
      some ((-nI 2), I3)
    ) else (
      mg I3 37 fun v5 =>
      if v5 = (nI 8) then (
        some ((-nI 4), I3)
      ) else (
        mg I3 37 fun v7 =>
        mw 8 25 v7 x1 I3 fun I9 =>
        mg I9 37 fun v11 =>
        mw 8 26 v11 x2 I9 fun I13 =>
        mg I13 37 fun v14 =>
        mp I13 37 (v14 + (nI 1)) fun I15 =>
        mg I15 37 fun v16 =>
        some (v16, I15)
      )
    )
  )
def g_X5_forget (I : MI) : Option (Int32 × MI) :=
  mg I 37 fun v1 =>
  mp I 37 (nI 0) fun I2 =>
  some (v1, I2)
def g_X5_lowest_6 : Nat → Int64 → Int64 → Int32 → Int64 → Int64 → MI → Option (Int64 × MI)
  | 0, _, _, _, _, _, _ => none
  | n + 1, y0, y2, x4, y5, y7, I =>
    if y7 = (0 : Int64) then (
      if x4 = 0 then (
        mz y5 <|
        some ((y0 / y5), I)
      ) else (
        mz y5 <|
        some ((y2 / y5), I)
      )
    ) else (
      mz y7 <|
      g_X5_lowest_6 n y0 y2 x4 y7 (y5 - y5 / y7 * y7) I
    )
def g_X5_lowest (y0 : Int64) (y2 : Int64) (x4 : Int32) (I : MI) : Option (Int64 × MI) :=
  g_X5_lowest_6 fw_fuel y0 y2 x4 y0 y2 I
def g_X5_no (x0 : Int32) (I : MI) : Option (Int64 × MI) :=
  some (((-9223372036854775808 : Int64) - x0.toInt64), I)
def g_X5_sheet_59 : Nat → Int32 → Int32 → Int32 → MI → Option (Int32 × MI)
  | 0, _, _, _, _ => none
  | n + 1, x1, x3, x4, I =>
    if (nI 60) ≤ x4 then (
      some (x3, I)
    ) else (
      mw 240 31 (((nI 60) * x1) + x4) (nI 0) I fun I3 =>
      g_X5_sheet_59 n x1 x3 (x4 + (nI 1)) I3
    )
def g_X5_sheet (x1 : Int32) (x2 : Int32) (x3 : Int32) (I : MI) : Option (Int32 × MI) :=
  mc (g_X5_isSheet x1 I) fun v2 I1 =>
  if v2 = 0 then (
    some ((-nI 2), I1)
  ) else (
    mc (g_X5_in x2 (nI 0) (nI 2) I1) fun v4 I3 =>
    if v4 = 0 then (
      some ((-nI 2), I3)
    ) else (
      if x3 ≤ (nI 60) then (
        if 0 ≤ x3 then (
          mw 4 28 x1 (vp_nar .boolean (nI 1)) I3 fun I7 =>
          mw 4 29 x1 x2 I7 fun I10 =>
          mw 4 30 x1 x3 I10 fun I13 =>
          g_X5_sheet_59 fw_fuel x1 x3 (nI 0) I13
        ) else (
          mc (g_X5_meets (nI 5) I3) fun v15 I14 =>
          some (v15, I14)
        )
      ) else (
        some ((-nI 2), I3)
      )
    )
  )
def g_X5_lose (x1 : Int32) (I : MI) : Option (Int32 × MI) :=
  mc (g_X5_isSheet x1 I) fun v2 I1 =>
  if v2 = 0 then (
    some ((-nI 2), I1)
  ) else (
    md 4 28 x1 I1 fun v5 =>
    if v5 = 0 then (
      mc (g_X5_meets (nI 1) I1) fun v13 I12 =>
      some (v13, I12)
    ) else (
      mw 4 28 x1 (vp_nar .boolean (nI 0)) I1 fun I8 =>
      md 4 30 x1 I8 fun v11 =>
      some (v11, I8)
    )
  )
def g_X5_lacks (x1 : Int32) (x2 : Int32) (x3 : Int32) (I : MI) : Option (Int32 × MI) :=
  md 4 28 x1 I fun v3 =>
  if v3 = 0 then (
    some ((nI 1), I)
  ) else (
    md 4 29 x1 I fun v6 =>
    if v6 = x2 then (
      md 4 30 x1 I fun v9 =>
      mc (g_X5_in x3 (nI 0) (v9 - (nI 1)) I) fun v11 I10 =>
      if v11 = 0 then (
        some ((nI 2), I10)
      ) else (
        some ((nI 0), I10)
      )
    ) else (
      some ((nI 3), I)
    )
  )
def g_X5_keep (x1 : Int32) (x2 : Int32) (x3 : Int32) (I : MI) : Option (Unit × MI) :=
  md 4 29 x1 I fun v4 =>
  if v4 = 0 then (
    mw 240 31 (((nI 60) * x1) + x2) x3.toInt8.toInt32 I fun I13 =>
    some ((), I13)
  ) else (
    md 4 29 x1 I fun v7 =>
    if v7 = (nI 1) then (
      mw 240 31 (((nI 60) * x1) + x2) x3.toInt16.toInt32 I fun I11 =>
      some ((), I11)
    ) else (
      mw 240 31 (((nI 60) * x1) + x2) x3 I fun I9 =>
      some ((), I9)
    )
  )
def g_X5_get (x1 : Int32) (x2 : Int32) (x3 : Int32) (I : MI) : Option (Int32 × MI) :=
  mc (g_X5_isSheet x1 I) fun v2 I1 =>
  if v2 = 0 then (
    some ((-2147483648 : Int32), I1)
  ) else (
    mc (g_X5_in x2 (nI 0) (nI 2) I1) fun v4 I3 =>
    if v4 = 0 then (
      some ((-2147483648 : Int32), I3)
    ) else (
      mc (g_X5_lacks x1 x2 x3 I3) fun v6 I5 =>
      if v6 ≤ 0 then (
        md 240 31 (((nI 60) * x1) + x3) I5 fun v9 =>
        some (v9, I5)
      ) else (
        mp I5 46 v6 fun I10 =>
        some ((-2147483648 : Int32), I10)
      )
    )
  )
def g_X5_copy_35 (I : MI) : Option (Int32 × MI) :=
  mc (g_X5_meets (nI 1) I) fun v2 I1 =>
  some (v2, I1)
def g_X5_copy_111 (I : MI) : Option (Int32 × MI) :=
  mc (g_X5_meets (nI 2) I) fun v2 I1 =>
  some (v2, I1)
def g_X5_copy_157 : Nat → Int32 → Int32 → Int32 → Int32 → MI → Option (Int32 × MI)
  | 0, _, _, _, _, _ => none
  | n + 1, x3, x4, x5, x6, I =>
    if x5 ≤ x6 then (
      some ((nI 1), I)
    ) else (
      md 60 32 x6 I fun v4 =>
      mw 240 31 ((((nI 60) * x3) + x4) + x6) v4 I fun I6 =>
      g_X5_copy_157 n x3 x4 x5 (x6 + (nI 1)) I6
    )
def g_X5_copy_120 : Nat → Int32 → Int32 → Int32 → Int32 → Int32 → Int32 → MI → Option (Int32 × MI)
  | 0, _, _, _, _, _, _, _ => none
  | n + 1, x1, x2, x3, x4, x5, x6, I =>
    if x5 ≤ x6 then (
      g_X5_copy_157 fw_fuel x3 x4 x5 (nI 0) I
    ) else (
      md 240 31 ((((nI 60) * x1) + x2) + x6) I fun v4 =>
      mw 60 32 x6 v4 I fun I6 =>
      g_X5_copy_120 n x1 x2 x3 x4 x5 (x6 + (nI 1)) I6
    )
def g_X5_copy (x1 : Int32) (x2 : Int32) (x3 : Int32) (x4 : Int32) (x5 : Int32) (I : MI) : Option (Int32 × MI) :=
  mc (g_X5_isSheet x1 I) fun v2 I1 =>
  if v2 = 0 then (
    some ((-nI 2), I1)
  ) else (
    mc (g_X5_isSheet x3 I1) fun v4 I3 =>
    if v4 = 0 then (
      some ((-nI 2), I3)
    ) else (
      md 4 28 x1 I3 fun v7 =>
      if v7 = 0 then (
        g_X5_copy_35 I3
      ) else (
        md 4 28 x3 I3 fun v10 =>
        if v10 = 0 then (
          g_X5_copy_35 I3
        ) else (
          md 4 29 x1 I3 fun v13 =>
          md 4 29 x3 I3 fun v16 =>
          if v13 = v16 then (
            if x2 < 0 then (
              g_X5_copy_111 I3
            ) else (
              if x4 < 0 then (
                g_X5_copy_111 I3
              ) else (
                if x5 < 0 then (
                  g_X5_copy_111 I3
                ) else (
                  md 4 30 x1 I3 fun v19 =>
                  if v19.toInt64 < (x2.toInt64 + x5.toInt64) then (
                    g_X5_copy_111 I3
                  ) else (
                    md 4 30 x3 I3 fun v22 =>
                    if (x4.toInt64 + x5.toInt64) ≤ v22.toInt64 then (
                      g_X5_copy_120 fw_fuel x1 x2 x3 x4 x5 (nI 0) I3
                    ) else (
                      g_X5_copy_111 I3
                    )
                  )
                )
              )
            )
          ) else (
            mc (g_X5_meets (nI 4) I3) fun v24 I23 =>
            some (v24, I23)
          )
        )
      )
    )
  )
def g_X5_isText (x0 : Int32) (I : MI) : Option (Int32 × MI) :=
  mc (g_X5_in x0 (nI 0) (nI 3) I) fun v2 I1 =>
  mb v2 <|
  some (v2, I1)
def g_X5_wipe (x1 : Int32) (I : MI) : Option (Int32 × MI) :=
  mc (g_X5_isText x1 I) fun v2 I1 =>
  if v2 = 0 then (
    some ((-nI 2), I1)
  ) else (
    md 4 1 x1 I1 fun v5 =>
    mw 4 1 x1 (nI 0) I1 fun I8 =>
    some (v5, I8)
  )
def g_X5_undo (x1 : Int32) (I : MI) : Option (Int32 × MI) :=
  mc (g_X5_isText x1 I) fun v2 I1 =>
  if v2 = 0 then (
    some ((-nI 2), I1)
  ) else (
    md 4 1 x1 I1 fun v5 =>
    if v5 = 0 then (
      some ((-nI 3), I1)
    ) else (
      md 4 1 x1 I1 fun v8 =>
      mw 4 1 x1 (v8 - (nI 1)) I1 fun I9 =>
      md 4 1 x1 I9 fun v12 =>
      some (v12, I9)
    )
  )
def g_X5_readsPuller_42 (x1 : Int32) (x2 : Int32) (x3 : Int32) (sx0 : Int32) (I : MI) : Option (Int32 × MI) :=
  mc (g_X5_byteAt x1 (x3 + (nI 1)) I) fun v2 I1 =>
  mc (g_X5_byteAt x1 (x3 + (nI 2)) I1) fun v4 I3 =>
  if x2 = (nI 8) then (
    some ((nI 0), I3)
  ) else (
    if sx0 = (-nI 1) then (
      some ((nI 0), I3)
    ) else (
      mc (g_X5_in (v2 - (nI 48)) (nI 1) (nI 9) I3) fun v6 I5 =>
      if v6 = 0 then (
        some ((nI 1), I5)
      ) else (
        mc (g_X5_in (v4 - (nI 48)) (nI 1) (nI 9) I5) fun v8 I7 =>
        if v8 = 0 then (
          some ((nI 2), I7)
        ) else (
          mw 17 4 (((nI 8) * x1) + x2) sx0 I7 fun I11 =>
          mw 17 5 (((nI 8) * x1) + x2) (v2 - (nI 48)) I11 fun I14 =>
          mw 17 6 (((nI 8) * x1) + x2) (v4 - (nI 48)) I14 fun I17 =>
          some ((nI 3), I17)
        )
      )
    )
  )
def g_X5_readsPuller (x1 : Int32) (x2 : Int32) (x3 : Int32) (I : MI) : Option (Int32 × MI) :=
  mc (g_X5_byteAt x1 x3 I) fun v2 I1 =>
  if v2 = (nI 104) then (
    g_X5_readsPuller_42 x1 x2 x3 (nI 0) I1
  ) else (
    if v2 = (nI 108) then (
      g_X5_readsPuller_42 x1 x2 x3 (nI 1) I1
    ) else (
      if v2 = (nI 97) then (
        g_X5_readsPuller_42 x1 x2 x3 (nI 2) I1
      ) else (
        g_X5_readsPuller_42 x1 x2 x3 (-nI 1) I1
      )
    )
  )
def g_X5_readsCalls_72 : Nat → Int32 → Int32 → Int32 → MI → Option (Int32 × MI)
  | 0, _, _, _, _ => none
  | n + 1, x1, x2, x3, I =>
    md 4 1 x2 I fun v3 =>
    if v3 ≤ x3 then (
      md 4 1 x2 I fun v7 =>
      mw 2 7 x1 v7 I fun I9 =>
      some ((-nI 1), I9)
    ) else (
      mc (g_X5_byteAt x2 x3 I) fun v12 I11 =>
      mc (g_X5_callBy v12 I11) fun v14 I13 =>
      mw 48 8 (((nI 24) * x1) + x3) v14 I13 fun I16 =>
      g_X5_readsCalls_72 n x1 x2 (x3 + (nI 1)) I16
    )
def g_X5_readsCalls_39 : Nat → Int32 → Int32 → Int32 → MI → Option (Int32 × MI)
  | 0, _, _, _, _ => none
  | n + 1, x1, x2, x3, I =>
    md 4 1 x2 I fun v3 =>
    if v3 ≤ x3 then (
      g_X5_readsCalls_72 fw_fuel x1 x2 (nI 0) I
    ) else (
      mc (g_X5_byteAt x2 x3 I) fun v5 I4 =>
      mc (g_X5_callBy v5 I4) fun v7 I6 =>
      if v7 = (-nI 1) then (
        some (x3, I6)
      ) else (
        g_X5_readsCalls_39 n x1 x2 (x3 + (nI 1)) I6
      )
    )
def g_X5_readsCalls_13 : Nat → Int32 → Int32 → Int32 → MI → Option (Int32 × MI)
  | 0, _, _, _, _ => none
  | n + 1, x1, x2, x3, I =>
    if (nI 24) ≤ x3 then (
      g_X5_readsCalls_39 fw_fuel x1 x2 (nI 0) I
    ) else (
      mw 48 8 (((nI 24) * x1) + x3) (nI 1) I fun I3 =>
      g_X5_readsCalls_13 n x1 x2 (x3 + (nI 1)) I3
    )
def g_X5_readsCalls (x1 : Int32) (I : MI) : Option (Int32 × MI) :=
  mw 2 7 x1 (nI 0) I fun I3 =>
  g_X5_readsCalls_13 fw_fuel x1 (x1 + (nI 2)) (nI 0) I3
def g_X5_read_32 : Nat → Int32 → Int32 → Int32 → MI → Option (Int32 × MI)
  | 0, _, _, _, _ => none
  | n + 1, x1, x2, x3, I =>
    md 4 30 x1 I fun v3 =>
    if v3 ≤ (((nI 3) * x2) + (nI 2)) then (
      some (x2, I)
    ) else (
      md 240 31 (x3 + ((nI 3) * x2)) I fun v6 =>
      md 240 31 ((x3 + ((nI 3) * x2)) + (nI 1)) I fun v9 =>
      md 240 31 ((x3 + ((nI 3) * x2)) + (nI 2)) I fun v12 =>
      mc (g_X5_event v6 v9 v12 I) fun v14 I13 =>
      if v14 ≤ 0 then (
        some (x2, I13)
      ) else (
        g_X5_read_32 n x1 (x2 + (nI 1)) x3 I13
      )
    )
def g_X5_read (x1 : Int32) (I : MI) : Option (Int32 × MI) :=
  mc (g_X5_isSheet x1 I) fun v2 I1 =>
  if v2 = 0 then (
    some ((-nI 2), I1)
  ) else (
    md 4 28 x1 I1 fun v5 =>
    if v5 = 0 then (
      mc (g_X5_meets (nI 1) I1) fun v7 I6 =>
      some (v7, I6)
    ) else (
      g_X5_read_32 fw_fuel x1 (nI 0) ((nI 60) * x1) I1
    )
  )
def g_X5_befalls_126 (rec12 : Int32 → Int32 → MI → Option (Unit × MI)) (x1 : Int32) (x2 : Int32) (I : MI) : Option (Unit × MI) :=
  rec12 x1 (x2 + (nI 1)) I
def g_X5_befalls_123 (rec12 : Int32 → Int32 → MI → Option (Unit × MI)) (x1 : Int32) (x2 : Int32) (sx0 : Int32) (I : MI) : Option (Unit × MI) :=
  mp I 19 sx0 fun I2 =>
  g_X5_befalls_126 rec12 x1 x2 I2
def g_X5_befalls_100 (rec12 : Int32 → Int32 → MI → Option (Unit × MI)) (x1 : Int32) (x2 : Int32) (sx0 : Int32) (sx1 : Int32) (I : MI) : Option (Unit × MI) :=
  mp I 18 (sx1 + sx0) fun I2 =>
  md 8 9 x2 I2 fun v5 =>
  if v5 = (nI 2) then (
    g_X5_befalls_123 rec12 x1 x2 (nI 1) I2
  ) else (
    mg I2 19 fun v6 =>
    g_X5_befalls_123 rec12 x1 x2 v6 I2
  )
def g_X5_befalls_99 (rec12 : Int32 → Int32 → MI → Option (Unit × MI)) (x1 : Int32) (x2 : Int32) (sx0 : Int32) (I : MI) : Option (Unit × MI) :=
  g_X5_befalls_100 rec12 x1 x2 (nI 0) sx0 I
def g_X5_befalls_67 (rec12 : Int32 → Int32 → MI → Option (Unit × MI)) (x1 : Int32) (x2 : Int32) (sx0 : Int32) (sx1 : Int32) (I : MI) : Option (Unit × MI) :=
  mp I 20 (sx1 ||| sx0) fun I2 =>
  mg I2 18 fun v3 =>
  md 8 9 x2 I2 fun v6 =>
  if v6 = (nI 1) then (
    mg I2 18 fun v7 =>
    if (nI 9) ≤ v7 then (
      g_X5_befalls_99 rec12 x1 x2 v3 I2
    ) else (
      g_X5_befalls_100 rec12 x1 x2 (nI 1) v3 I2
    )
  ) else (
    g_X5_befalls_99 rec12 x1 x2 v3 I2
  )
def g_X5_befalls_12 : Nat → Int32 → Int32 → MI → Option (Unit × MI)
  | 0, _, _, _ => none
  | n + 1, x1, x2, I =>
    mg I 9 fun v1 =>
    if v1 ≤ x2 then (
      some ((), I)
    ) else (
      md 8 10 x2 I fun v4 =>
      if v4 = x1 then (
        mg I 14 fun v5 =>
        mc (g_X5_isIn v5 x2 I) fun v7 I6 =>
        if v7 = 0 then (
          mg I6 20 fun v8 =>
          md 8 9 x2 I6 fun v11 =>
          if v11 = 0 then (
            md 8 11 x2 I6 fun v14 =>
            g_X5_befalls_67 (g_X5_befalls_12 n) x1 x2 ((nI 1) <<< (v14 &&& 31)) v8 I6
          ) else (
            g_X5_befalls_67 (g_X5_befalls_12 n) x1 x2 (nI 0) v8 I6
          )
        ) else (
          g_X5_befalls_126 (g_X5_befalls_12 n) x1 x2 I6
        )
      ) else (
        g_X5_befalls_126 (g_X5_befalls_12 n) x1 x2 I
      )
    )
def g_X5_befalls (x1 : Int32) (I : MI) : Option (Unit × MI) :=
  mp I 19 (nI 0) fun I1 =>
  mp I1 20 (nI 0) fun I2 =>
  g_X5_befalls_12 fw_fuel x1 (nI 0) I2
def g_X5_pullsOne_91 (x1 : Int32) (sx0 : Int32) (sx1 : Int32) (I : MI) : Option (Unit × MI) :=
  mw 16 17 sx1 sx0 I fun I2 =>
  md 16 16 x1 I2 fun v5 =>
  md 16 17 x1 I2 fun v8 =>
  mw 16 16 x1 (v5 + v8) I2 fun I9 =>
  md 2 18 (x1 / (nI 8)) I9 fun v12 =>
  md 16 17 x1 I9 fun v15 =>
  mw 2 18 (x1 / (nI 8)) (v12 + v15) I9 fun I16 =>
  some ((), I16)
def g_X5_pullsOne_68 (x1 : Int32) (x4 : Int32) (sx0 : Int32) (I : MI) : Option (Unit × MI) :=
  if x4 ≤ sx0 then (
    g_X5_pullsOne_91 x1 (nI 0) x1 I
  ) else (
    g_X5_pullsOne_91 x1 (x4 - sx0) x1 I
  )
def g_X5_pullsOne_48 (x1 : Int32) (sx0 : Int32) (I : MI) : Option (Unit × MI) :=
  md 17 4 x1 I fun v3 =>
  if v3 = (nI 2) then (
    g_X5_pullsOne_68 x1 sx0 (nI 0) I
  ) else (
    mg I 18 fun v4 =>
    g_X5_pullsOne_68 x1 sx0 v4 I
  )
def g_X5_pullsOne_26 (x1 : Int32) (sx0 : Int32) (I : MI) : Option (Unit × MI) :=
  mg I 20 fun v1 =>
  mc (g_X5_isIn v1 x1 I) fun v3 I2 =>
  if v3 = 0 then (
    mc (g_X5_strength x1 sx0 I2) fun v5 I4 =>
    g_X5_pullsOne_48 x1 v5 I4
  ) else (
    g_X5_pullsOne_48 x1 (nI 0) I2
  )
def g_X5_pullsOne (x1 : Int32) (x2 : Int32) (I : MI) : Option (Unit × MI) :=
  mg I 19 fun v1 =>
  if v1 = (nI 1) then (
    g_X5_pullsOne_26 x1 (nI 0) I
  ) else (
    md 48 12 (((nI 24) * (x1 / (nI 8))) + x2) I fun v4 =>
    g_X5_pullsOne_26 x1 v4 I
  )
def g_X5_put (x1 : Int32) (x2 : Int32) (x3 : Int32) (x4 : Int32) (I : MI) : Option (Int32 × MI) :=
  mc (g_X5_isSheet x1 I) fun v2 I1 =>
  if v2 = 0 then (
    some ((-nI 2), I1)
  ) else (
    mc (g_X5_in x2 (nI 0) (nI 2) I1) fun v4 I3 =>
    if v4 = 0 then (
      some ((-nI 2), I3)
    ) else (
      mc (g_X5_lacks x1 x2 x3 I3) fun v6 I5 =>
      if v6 ≤ 0 then (
        mc (g_X5_keep x1 x3 x4 I5) fun _ I7 =>
        some ((nI 1), I7)
      ) else (
        mc (g_X5_meets v6 I5) fun v9 I8 =>
        some (v9, I8)
      )
    )
  )
def g_X5_type_39 (x1 : Int32) (x2 : Int32) (sx0 : Int32) (sx1 : Int32) (I : MI) : Option (Int32 × MI) :=
  if sx1 = sx0 then (
    some ((-nI 4), I)
  ) else (
    md 4 1 x1 I fun v4 =>
    mw 124 2 (((nI 31) * x1) + v4) x2 I fun I6 =>
    md 4 1 x1 I6 fun v9 =>
    mw 4 1 x1 (v9 + (nI 1)) I6 fun I10 =>
    md 4 1 x1 I10 fun v13 =>
    some (v13, I10)
  )
def g_X5_type (x1 : Int32) (x2 : Int32) (I : MI) : Option (Int32 × MI) :=
  mc (g_X5_isText x1 I) fun v2 I1 =>
  if v2 = 0 then (
    some ((-nI 2), I1)
  ) else (
    mc (g_X5_in x2 (nI 0) (nI 255) I1) fun v4 I3 =>
    if v4 = 0 then (
      some ((-nI 2), I3)
    ) else (
      md 4 1 x1 I3 fun v7 =>
      if (nI 2) ≤ x1 then (
        g_X5_type_39 x1 x2 (nI 24) v7 I3
      ) else (
        g_X5_type_39 x1 x2 (nI 31) v7 I3
      )
    )
  )
def g_X5_readsTeam_25 (rec11 : Int32 → Int32 → Int32 → MI → Option (Int32 × MI)) (x1 : Int32) (x2 : Int32) (x3 : Int32) (I : MI) : Option (Int32 × MI) :=
  mc (g_X5_readsPuller x1 x2 x3 I) fun v2 I1 =>
  if (nI 3) ≤ v2 then (
    md 4 1 x1 I1 fun v5 =>
    if (x3 + (nI 3)) = v5 then (
      mw 2 3 x1 (x2 + (nI 1)) I1 fun I10 =>
      some ((-nI 1), I10)
    ) else (
      mc (g_X5_byteAt x1 (x3 + (nI 3)) I1) fun v7 I6 =>
      if v7 = (nI 59) then (
        rec11 x1 (x2 + (nI 1)) ((x3 + (nI 3)) + (nI 1)) I6
      ) else (
        some ((x3 + (nI 3)), I6)
      )
    )
  ) else (
    some ((x3 + v2), I1)
  )
def g_X5_readsTeam_11 : Nat → Int32 → Int32 → Int32 → MI → Option (Int32 × MI)
  | 0, _, _, _, _ => none
  | n + 1, x1, x2, x3, I =>
    md 4 1 x1 I fun v3 =>
    if x3 < v3 then (
      g_X5_readsTeam_25 (g_X5_readsTeam_11 n) x1 x2 x3 I
    ) else (
      if x3 ≤ 0 then (
        some ((-nI 1), I)
      ) else (
        g_X5_readsTeam_25 (g_X5_readsTeam_11 n) x1 x2 x3 I
      )
    )
def g_X5_readsTeam (x1 : Int32) (I : MI) : Option (Int32 × MI) :=
  mw 2 3 x1 (nI 0) I fun I3 =>
  g_X5_readsTeam_11 fw_fuel x1 (nI 0) (nI 0) I3
def g_X5_goesBy_56 (rec21 : Int32 → Int32 → MI → Option (Unit × MI)) (x1 : Int32) (x2 : Int32) (I : MI) : Option (Unit × MI) :=
  rec21 x1 (x2 + (nI 1)) I
def g_X5_goesBy_127 : Nat → Int32 → Int32 → MI → Option (Unit × MI)
  | 0, _, _, _ => none
  | n + 1, x1, x2, I =>
    if (nI 16) ≤ x2 then (
      some ((), I)
    ) else (
      md 16 17 x2 I fun v4 =>
      mw 384 22 (((nI 16) * x1) + x2) v4 I fun I6 =>
      md 16 15 x2 I6 fun v10 =>
      mw 384 23 (((nI 16) * x1) + x2) v10 I6 fun I12 =>
      g_X5_goesBy_127 n x1 (x2 + (nI 1)) I12
    )
def g_X5_goesBy_75 (x1 : Int32) (I : MI) : Option (Unit × MI) :=
  mg I 21 fun v2 =>
  mw 24 19 x1 v2 I fun I4 =>
  mg I4 18 fun v6 =>
  mw 24 20 x1 v6 I4 fun I8 =>
  md 2 18 (nI 0) I8 fun v12 =>
  mw 48 21 ((nI 2) * x1) v12 I8 fun I14 =>
  md 2 18 (nI 1) I14 fun v18 =>
  mw 48 21 (((nI 2) * x1) + (nI 1)) v18 I14 fun I20 =>
  g_X5_goesBy_127 fw_fuel x1 (nI 0) I20
def g_X5_goesBy_21 : Nat → Int32 → Int32 → MI → Option (Unit × MI)
  | 0, _, _, _ => none
  | n + 1, x1, x2, I =>
    if (nI 16) ≤ x2 then (
      mg I 22 fun v1 =>
      if v1 = (-nI 1) then (
        mc (g_X5_goes x1 I) fun _ I2 =>
        g_X5_goesBy_75 x1 I2
      ) else (
        g_X5_goesBy_75 x1 I
      )
    ) else (
      mw 16 17 x2 (nI 0) I fun I5 =>
      mc (g_X5_isHere x2 I5) fun v7 I6 =>
      if v7 = 0 then (
        g_X5_goesBy_56 (g_X5_goesBy_21 n) x1 x2 I6
      ) else (
        mg I6 22 fun v8 =>
        if v8 = (-nI 1) then (
          mc (g_X5_pullsOne x2 x1 I6) fun _ I9 =>
          g_X5_goesBy_56 (g_X5_goesBy_21 n) x1 x2 I9
        ) else (
          g_X5_goesBy_56 (g_X5_goesBy_21 n) x1 x2 I6
        )
      )
    )
def g_X5_goesBy (x1 : Int32) (I : MI) : Option (Unit × MI) :=
  mc (g_X5_befalls x1 I) fun _ I1 =>
  mw 2 18 (nI 0) (nI 0) I1 fun I4 =>
  mw 2 18 (nI 1) (nI 0) I4 fun I7 =>
  g_X5_goesBy_21 fw_fuel x1 (nI 0) I7
def g_X5_faultOf (x1 : Int32) (I : MI) : Option (Int32 × MI) :=
  mc (g_X5_readsTeam (nI 0) I) fun v2 I1 =>
  mc (g_X5_readsTeam (nI 1) I1) fun v4 I3 =>
  mc (g_X5_readsCalls (nI 0) I3) fun v6 I5 =>
  mc (g_X5_readsCalls (nI 1) I5) fun v8 I7 =>
  if x1 = 0 then (
    some (v2, I7)
  ) else (
    if x1 = (nI 1) then (
      some (v4, I7)
    ) else (
      if x1 = (nI 2) then (
        some (v6, I7)
      ) else (
        some (v8, I7)
      )
    )
  )
def g_X5_reads (I : MI) : Option (Unit × MI) :=
  mc (g_X5_faultOf (nI 0) I) fun v2 I1 =>
  some ((), I1)
def g_X5_callOf (x1 : Int32) (x2 : Int32) (I : MI) : Option (Int32 × MI) :=
  mc (g_X5_reads I) fun _ I1 =>
  md 48 8 (((nI 24) * x1) + x2) I1 fun v4 =>
  some (v4, I1)
def g_X5_asTold_37 : Nat → Int32 → MI → Option (Unit × MI)
  | 0, _, _ => none
  | n + 1, x1, I =>
    if (nI 16) ≤ x1 then (
      mp I 16 (-nI 1) fun I1 =>
      some ((), I1)
    ) else (
      mw 16 13 x1 (x1 - x1 / (nI 8) * (nI 8)) I fun I4 =>
      g_X5_asTold_37 n (x1 + (nI 1)) I4
    )
def g_X5_asTold_6 : Nat → Int32 → MI → Option (Unit × MI)
  | 0, _, _ => none
  | n + 1, x1, I =>
    if (nI 48) ≤ x1 then (
      mp I 14 (nI 0) fun I1 =>
      g_X5_asTold_37 fw_fuel (nI 0) I1
    ) else (
      md 48 8 x1 I fun v5 =>
      mw 48 12 x1 v5 I fun I7 =>
      g_X5_asTold_6 n (x1 + (nI 1)) I7
    )
def g_X5_asTold (I : MI) : Option (Unit × MI) :=
  mc (g_X5_reads I) fun _ I1 =>
  g_X5_asTold_6 fw_fuel (nI 0) I1
def g_X5_runs_150 (rec45 : Int32 → MI → Option (Unit × MI)) (x1 : Int32) (sx0 : Int32) (sx1 : Int32) (I : MI) : Option (Unit × MI) :=
  mw 2 14 sx1 sx0 I fun I2 =>
  rec45 (x1 + (nI 1)) I2
def g_X5_runs_130 (rec45 : Int32 → MI → Option (Unit × MI)) (x1 : Int32) (x2 : Int32) (sx0 : Int32) (I : MI) : Option (Unit × MI) :=
  if sx0 = 0 then (
    md 2 14 x2 I fun v4 =>
    g_X5_runs_150 rec45 x1 v4 x2 I
  ) else (
    g_X5_runs_150 rec45 x1 x1 x2 I
  )
def g_X5_runs_125 (rec45 : Int32 → MI → Option (Unit × MI)) (x1 : Int32) (x2 : Int32) (I : MI) : Option (Unit × MI) :=
  g_X5_runs_130 rec45 x1 x2 (nI 1) I
def g_X5_runs_129 (rec45 : Int32 → MI → Option (Unit × MI)) (x1 : Int32) (x2 : Int32) (I : MI) : Option (Unit × MI) :=
  g_X5_runs_130 rec45 x1 x2 (nI 0) I
def g_X5_runs_79 (rec45 : Int32 → MI → Option (Unit × MI)) (x1 : Int32) (x2 : Int32) (sx0 : Int32) (sx1 : Int32) (I : MI) : Option (Unit × MI) :=
  mw 16 15 sx1 sx0 I fun I2 =>
  mw 16 16 x1 (nI 0) I2 fun I5 =>
  mc (g_X5_isHere x1 I5) fun v7 I6 =>
  if v7 = 0 then (
    g_X5_runs_129 rec45 x1 x2 I6
  ) else (
    md 2 14 x2 I6 fun v10 =>
    if v10 = (-nI 1) then (
      g_X5_runs_125 rec45 x1 x2 I6
    ) else (
      md 16 13 x1 I6 fun v13 =>
      md 2 14 x2 I6 fun v17 =>
      md 16 13 v17 I6 fun v19 =>
      if v13 ≤ v19 then (
        g_X5_runs_129 rec45 x1 x2 I6
      ) else (
        g_X5_runs_125 rec45 x1 x2 I6
      )
    )
  )
def g_X5_runs_159 : Nat → Int32 → MI → Option (Unit × MI)
  | 0, _, _ => none
  | n + 1, x1, I =>
    if (nI 24) ≤ x1 then (
      some ((), I)
    ) else (
      mc (g_X5_goesBy x1 I) fun _ I1 =>
      g_X5_runs_159 n (x1 + (nI 1)) I1
    )
def g_X5_runs_45 : Nat → Int32 → MI → Option (Unit × MI)
  | 0, _, _ => none
  | n + 1, x1, I =>
    if (nI 16) ≤ x1 then (
      g_X5_runs_159 fw_fuel (nI 0) I
    ) else (
      mc (g_X5_isThereOne x1 I) fun v3 I2 =>
      if v3 = 0 then (
        g_X5_runs_79 (g_X5_runs_45 n) x1 (x1 / (nI 8)) (nI 0) x1 I2
      ) else (
        md 17 6 x1 I2 fun v6 =>
        g_X5_runs_79 (g_X5_runs_45 n) x1 (x1 / (nI 8)) v6 x1 I2
      )
    )
def g_X5_runs (I : MI) : Option (Unit × MI) :=
  mg I 8 fun v1 =>
  mp I 18 v1 fun I2 =>
  mp I2 21 (nI 12) fun I3 =>
  mp I3 22 (-nI 1) fun I4 =>
  mp I4 23 (-nI 1) fun I5 =>
  mp I5 24 (nI 0) fun I6 =>
  mw 2 14 (nI 0) (-nI 1) I6 fun I9 =>
  mw 2 14 (nI 1) (-nI 1) I9 fun I12 =>
  g_X5_runs_45 fw_fuel (nI 0) I12
def g_X5_starts (I : MI) : Option (Unit × MI) :=
  mc (g_X5_asTold I) fun _ I1 =>
  mp I1 34 (-nI 1) fun I2 =>
  mp I2 35 (-nI 1) fun I3 =>
  some ((), I3)
def g_X5_tries_60 (x3 : Int32) (sx0 : Int32) (I : MI) : Option (Unit × MI) :=
  mp I 34 sx0 fun I2 =>
  if x3 = 0 then (
    mg I2 35 fun v3 =>
    mp I2 35 v3 fun I4 =>
    some ((), I4)
  ) else (
    mg I2 21 fun v5 =>
    mp I2 35 v5 fun I6 =>
    some ((), I6)
  )
def g_X5_tries_46 (x1 : Int32) (sx0 : Int32) (I : MI) : Option (Unit × MI) :=
  if sx0 = 0 then (
    mg I 34 fun v1 =>
    g_X5_tries_60 sx0 v1 I
  ) else (
    g_X5_tries_60 sx0 x1 I
  )
def g_X5_tries_41 (x1 : Int32) (I : MI) : Option (Unit × MI) :=
  g_X5_tries_46 x1 (nI 1) I
def g_X5_tries_45 (x1 : Int32) (I : MI) : Option (Unit × MI) :=
  g_X5_tries_46 x1 (nI 0) I
def g_X5_tries (x1 : Int32) (x2 : Int32) (I : MI) : Option (Unit × MI) :=
  mc (g_X5_runs I) fun _ I1 =>
  mg I1 34 fun v2 =>
  if v2 = (-nI 1) then (
    g_X5_tries_41 x1 I1
  ) else (
    if x2 = 0 then (
      mg I1 21 fun v5 =>
      mg I1 35 fun v6 =>
      if v5 ≤ v6 then (
        g_X5_tries_45 x1 I1
      ) else (
        g_X5_tries_41 x1 I1
      )
    ) else (
      mg I1 21 fun v3 =>
      mg I1 35 fun v4 =>
      if v4 ≤ v3 then (
        g_X5_tries_45 x1 I1
      ) else (
        g_X5_tries_41 x1 I1
      )
    )
  )
def g_X5_swapOf_31 (rec12 : Int32 → Int32 → Int32 → Int32 → MI → Option (Int32 × MI)) : Nat → Int32 → Int32 → Int32 → Int32 → Int32 → MI → Option (Int32 × MI)
  | 0, _, _, _, _, _, _ => none
  | n + 1, x1, x2, x3, x4, x5, I =>
    md 2 3 x1 I fun v3 =>
    if (x3 + v3) ≤ x5 then (
      rec12 x1 x2 x3 (x4 + (nI 1)) I
    ) else (
      mw 16 13 x4 (x5 - x5 / (nI 8) * (nI 8)) I fun I6 =>
      mw 16 13 x5 (x4 - x4 / (nI 8) * (nI 8)) I6 fun I9 =>
      mc (g_X5_tries (((nI 16) * x4) + x5) x1 I9) fun _ I10 =>
      mw 16 13 x4 (x4 - x4 / (nI 8) * (nI 8)) I10 fun I13 =>
      mw 16 13 x5 (x5 - x5 / (nI 8) * (nI 8)) I13 fun I16 =>
      g_X5_swapOf_31 rec12 n x1 x2 x3 x4 (x5 + (nI 1)) I16
    )
def g_X5_swapOf_12 : Nat → Int32 → Int32 → Int32 → Int32 → MI → Option (Int32 × MI)
  | 0, _, _, _, _, _ => none
  | n + 1, x1, x2, x3, x4, I =>
    md 2 3 x1 I fun v3 =>
    if (x3 + v3) ≤ x4 then (
      mg I 34 fun v4 =>
      if v4 = (-nI 1) then (
        some ((-nI 1), I)
      ) else (
        if x2 = 0 then (
          mg I 34 fun v7 =>
          some ((v7 / (nI 16)), I)
        ) else (
          if x2 = (nI 1) then (
            mg I 34 fun v6 =>
            some ((v6 - v6 / (nI 16) * (nI 16)), I)
          ) else (
            mg I 35 fun v5 =>
            some (v5, I)
          )
        )
      )
    ) else (
      g_X5_swapOf_31 (g_X5_swapOf_12 n) fw_fuel x1 x2 x3 x4 (x4 + (nI 1)) I
    )
def g_X5_swapOf (x1 : Int32) (x2 : Int32) (I : MI) : Option (Int32 × MI) :=
  mc (g_X5_starts I) fun _ I1 =>
  g_X5_swapOf_12 fw_fuel x1 x2 ((nI 8) * x1) ((nI 8) * x1) I1
def g_X5_outOf_9 : Nat → Int32 → Int32 → Int32 → MI → Option (Int32 × MI)
  | 0, _, _, _, _ => none
  | n + 1, x1, x2, x3, I =>
    md 2 3 x1 I fun v3 =>
    if (((nI 8) * x1) + v3) ≤ x3 then (
      if x2 = 0 then (
        mg I 34 fun v5 =>
        some (v5, I)
      ) else (
        mg I 35 fun v4 =>
        some (v4, I)
      )
    ) else (
      mp I 16 x3 fun I6 =>
      mc (g_X5_tries x3 x1 I6) fun _ I7 =>
      g_X5_outOf_9 n x1 x2 (x3 + (nI 1)) I7
    )
def g_X5_outOf (x1 : Int32) (x2 : Int32) (I : MI) : Option (Int32 × MI) :=
  mc (g_X5_starts I) fun _ I1 =>
  g_X5_outOf_9 fw_fuel x1 x2 ((nI 8) * x1) I1
def g_X5_isSpared (x1 : Int32) (I : MI) : Option (Int32 × MI) :=
  mp I 14 x1 fun I1 =>
  mc (g_X5_runs I1) fun _ I2 =>
  mg I2 22 fun v3 =>
  if v3 = (nI 1) then (
    some ((nI 0), I2)
  ) else (
    some ((nI 1), I2)
  )
def g_X5_isSeen_45 (rec8 : Int32 → Int32 → MI → Option (Int32 × MI)) (x2 : Int32) (sx0 : Int32) (I : MI) : Option (Int32 × MI) :=
  rec8 sx0 (x2 + (nI 1)) I
def g_X5_isSeen_8 : Nat → Int32 → Int32 → MI → Option (Int32 × MI)
  | 0, _, _, _ => none
  | n + 1, x1, x2, I =>
    mg I 37 fun v1 =>
    if v1 ≤ x2 then (
      mb x1 <|
      some (x1, I)
    ) else (
      if x1 = 0 then (
        mb x1 <|
        some (x1, I)
      ) else (
        md 8 25 x2 I fun v5 =>
        md 24 19 v5 I fun v7 =>
        md 8 26 x2 I fun v10 =>
        if v7 = v10 then (
          g_X5_isSeen_45 (g_X5_isSeen_8 n) x2 (nI 1) I
        ) else (
          g_X5_isSeen_45 (g_X5_isSeen_8 n) x2 (nI 0) I
        )
      )
    )
def g_X5_isSeen (I : MI) : Option (Int32 × MI) :=
  mc (g_X5_runs I) fun _ I1 =>
  g_X5_isSeen_8 fw_fuel (nI 1) (nI 0) I1
def g_X5_weightsBy_52 (rec16 : Int32 → Int32 → Int32 → Int32 → MI → Option (Int32 × MI)) : Nat → Int32 → Int32 → Int32 → Int32 → Int32 → MI → Option (Int32 × MI)
  | 0, _, _, _, _, _, _ => none
  | n + 1, x1, x2, x3, x4, x5, I =>
    if (nI 24) ≤ x5 then (
      rec16 x1 x2 x3 (x4 + (nI 1)) I
    ) else (
      md 24 19 x5 I fun v4 =>
      mw 240 27 (((nI 24) * x4) + x5) v4 I fun I6 =>
      g_X5_weightsBy_52 rec16 n x1 x2 x3 x4 (x5 + (nI 1)) I6
    )
def g_X5_weightsBy_47 (rec16 : Int32 → Int32 → Int32 → Int32 → MI → Option (Int32 × MI)) (x1 : Int32) (x2 : Int32) (x4 : Int32) (sx0 : Int32) (sx1 : Int32) (I : MI) : Option (Int32 × MI) :=
  g_X5_weightsBy_52 rec16 fw_fuel x1 x2 (sx1 ||| sx0) x4 (nI 0) I
def g_X5_weightsBy_16 : Nat → Int32 → Int32 → Int32 → Int32 → MI → Option (Int32 × MI)
  | 0, _, _, _, _, _ => none
  | n + 1, x1, x2, x3, x4, I =>
    if (nI 10) ≤ x4 then (
      mw 17 5 x1 x2 I fun I3 =>
      some (x3, I3)
    ) else (
      mw 17 5 x1 x4 I fun I6 =>
      mc (g_X5_isSeen I6) fun v8 I7 =>
      if v8 = 0 then (
        g_X5_weightsBy_47 (g_X5_weightsBy_16 n) x1 x2 x4 (nI 0) x3 I7
      ) else (
        g_X5_weightsBy_47 (g_X5_weightsBy_16 n) x1 x2 x4 ((nI 1) <<< (x4 &&& 31)) x3 I7
      )
    )
def g_X5_weightsBy (x1 : Int32) (I : MI) : Option (Int32 × MI) :=
  mc (g_X5_asTold I) fun _ I1 =>
  md 17 5 x1 I1 fun v4 =>
  g_X5_weightsBy_16 fw_fuel x1 v4 (nI 0) (nI 1) I1
def g_X5_sortsBy_46 (rec16 : Int32 → Int32 → Int32 → Int32 → MI → Option (Int32 × MI)) (x1 : Int32) (x2 : Int32) (x4 : Int32) (sx0 : Int32) (sx1 : Int32) (I : MI) : Option (Int32 × MI) :=
  rec16 x1 x2 (sx1 ||| sx0) (x4 + (nI 1)) I
def g_X5_sortsBy_16 : Nat → Int32 → Int32 → Int32 → Int32 → MI → Option (Int32 × MI)
  | 0, _, _, _, _, _ => none
  | n + 1, x1, x2, x3, x4, I =>
    if (nI 3) ≤ x4 then (
      mw 17 4 x1 x2 I fun I3 =>
      some (x3, I3)
    ) else (
      mw 17 4 x1 x4 I fun I6 =>
      mc (g_X5_isSeen I6) fun v8 I7 =>
      if v8 = 0 then (
        g_X5_sortsBy_46 (g_X5_sortsBy_16 n) x1 x2 x4 (nI 0) x3 I7
      ) else (
        g_X5_sortsBy_46 (g_X5_sortsBy_16 n) x1 x2 x4 ((nI 1) <<< (x4 &&& 31)) x3 I7
      )
    )
def g_X5_sortsBy (x1 : Int32) (I : MI) : Option (Int32 × MI) :=
  mc (g_X5_asTold I) fun _ I1 =>
  md 17 4 x1 I1 fun v4 =>
  g_X5_sortsBy_16 fw_fuel x1 v4 (nI 0) (nI 0) I1
def g_X5_askOf_101 (rec14 : Int32 → Int32 → Int32 → Int32 → MI → Option (Int32 × MI)) (rec27 : Int32 → Int32 → Int32 → Int32 → Int32 → Int32 → MI → Option (Int32 × MI)) (rec40 : Int32 → Int32 → Int32 → Int32 → Int32 → Int32 → Int32 → Int32 → MI → Option (Int32 × MI)) (x2 : Int32) (x3 : Int32) (x4 : Int32) (x5 : Int32) (x6 : Int32) (x7 : Int32) (x9 : Int32) (sx0 : Int32) (sx1 : Int32) (I : MI) : Option (Int32 × MI) :=
  rec40 x2 x3 x4 x5 x6 x7 (sx1 + sx0) (x9 + (nI 1)) I
def g_X5_askOf_100 (rec14 : Int32 → Int32 → Int32 → Int32 → MI → Option (Int32 × MI)) (rec27 : Int32 → Int32 → Int32 → Int32 → Int32 → Int32 → MI → Option (Int32 × MI)) (rec40 : Int32 → Int32 → Int32 → Int32 → Int32 → Int32 → Int32 → Int32 → MI → Option (Int32 × MI)) (x2 : Int32) (x3 : Int32) (x4 : Int32) (x5 : Int32) (x6 : Int32) (x7 : Int32) (x9 : Int32) (sx0 : Int32) (I : MI) : Option (Int32 × MI) :=
  g_X5_askOf_101 rec14 rec27 rec40 x2 x3 x4 x5 x6 x7 x9 (nI 0) sx0 I
def g_X5_askOf_124 (rec14 : Int32 → Int32 → Int32 → Int32 → MI → Option (Int32 × MI)) (rec27 : Int32 → Int32 → Int32 → Int32 → Int32 → Int32 → MI → Option (Int32 × MI)) (x2 : Int32) (x3 : Int32) (x4 : Int32) (x5 : Int32) (x7 : Int32) (sx0 : Int32) (I : MI) : Option (Int32 × MI) :=
  rec27 x2 x3 x4 x5 sx0 (x7 + (nI 1)) I
def g_X5_askOf_40 (rec14 : Int32 → Int32 → Int32 → Int32 → MI → Option (Int32 × MI)) (rec27 : Int32 → Int32 → Int32 → Int32 → Int32 → Int32 → MI → Option (Int32 × MI)) : Nat → Int32 → Int32 → Int32 → Int32 → Int32 → Int32 → Int32 → Int32 → MI → Option (Int32 × MI)
  | 0, _, _, _, _, _, _, _, _, _ => none
  | n + 1, x2, x3, x4, x5, x6, x7, x8, x9, I =>
    if (nI 10) ≤ x9 then (
      if x8 ≤ x6 then (
        g_X5_askOf_124 rec14 rec27 x2 x3 x4 x5 x7 x6 I
      ) else (
        g_X5_askOf_124 rec14 rec27 x2 x3 x4 x5 x7 x8 I
      )
    ) else (
      mc (g_X5_isIn x2 x7 I) fun v2 I1 =>
      if v2 = 0 then (
        g_X5_askOf_100 rec14 rec27 (g_X5_askOf_40 rec14 rec27 n) x2 x3 x4 x5 x6 x7 x9 x8 I1
      ) else (
        mc (g_X5_isIn x2 x9 I1) fun v4 I3 =>
        if v4 = 0 then (
          g_X5_askOf_100 rec14 rec27 (g_X5_askOf_40 rec14 rec27 n) x2 x3 x4 x5 x6 x7 x9 x8 I3
        ) else (
          md 240 27 (((nI 24) * x7) + x5) I3 fun v7 =>
          md 240 27 (((nI 24) * x9) + x5) I3 fun v10 =>
          if v7 = v10 then (
            g_X5_askOf_101 rec14 rec27 (g_X5_askOf_40 rec14 rec27 n) x2 x3 x4 x5 x6 x7 x9 (nI 1) x8 I3
          ) else (
            g_X5_askOf_100 rec14 rec27 (g_X5_askOf_40 rec14 rec27 n) x2 x3 x4 x5 x6 x7 x9 x8 I3
          )
        )
      )
    )
def g_X5_askOf_175 (rec14 : Int32 → Int32 → Int32 → Int32 → MI → Option (Int32 × MI)) (x2 : Int32) (x3 : Int32) (x5 : Int32) (sx0 : Int32) (I : MI) : Option (Int32 × MI) :=
  rec14 x2 x3 sx0 (x5 + (nI 1)) I
def g_X5_askOf_162 (rec14 : Int32 → Int32 → Int32 → Int32 → MI → Option (Int32 × MI)) (x2 : Int32) (x4 : Int32) (x5 : Int32) (x6 : Int32) (x7 : Int32) (sx0 : Int32) (I : MI) : Option (Int32 × MI) :=
  if x7 = 0 then (
    g_X5_askOf_175 rec14 x2 sx0 x5 x4 I
  ) else (
    g_X5_askOf_175 rec14 x2 sx0 x5 x6 I
  )
def g_X5_askOf_149 (rec14 : Int32 → Int32 → Int32 → Int32 → MI → Option (Int32 × MI)) (x2 : Int32) (x3 : Int32) (x4 : Int32) (x5 : Int32) (x6 : Int32) (sx0 : Int32) (I : MI) : Option (Int32 × MI) :=
  if sx0 = 0 then (
    g_X5_askOf_162 rec14 x2 x4 x5 x6 sx0 x3 I
  ) else (
    g_X5_askOf_162 rec14 x2 x4 x5 x6 sx0 x5 I
  )
def g_X5_askOf_144 (rec14 : Int32 → Int32 → Int32 → Int32 → MI → Option (Int32 × MI)) (x2 : Int32) (x3 : Int32) (x4 : Int32) (x5 : Int32) (x6 : Int32) (I : MI) : Option (Int32 × MI) :=
  g_X5_askOf_149 rec14 x2 x3 x4 x5 x6 (nI 1) I
def g_X5_askOf_27 (rec14 : Int32 → Int32 → Int32 → Int32 → MI → Option (Int32 × MI)) : Nat → Int32 → Int32 → Int32 → Int32 → Int32 → Int32 → MI → Option (Int32 × MI)
  | 0, _, _, _, _, _, _, _ => none
  | n + 1, x2, x3, x4, x5, x6, x7, I =>
    if (nI 10) ≤ x7 then (
      if x3 = (-nI 1) then (
        g_X5_askOf_144 rec14 x2 x3 x4 x5 x6 I
      ) else (
        if x4 ≤ x6 then (
          g_X5_askOf_149 rec14 x2 x3 x4 x5 x6 (nI 0) I
        ) else (
          g_X5_askOf_144 rec14 x2 x3 x4 x5 x6 I
        )
      )
    ) else (
      g_X5_askOf_40 rec14 (g_X5_askOf_27 rec14 n) fw_fuel x2 x3 x4 x5 x6 x7 (nI 0) (nI 1) I
    )
def g_X5_askOf_14 : Nat → Int32 → Int32 → Int32 → Int32 → MI → Option (Int32 × MI)
  | 0, _, _, _, _, _ => none
  | n + 1, x2, x3, x4, x5, I =>
    if (nI 24) ≤ x5 then (
      some (x3, I)
    ) else (
      g_X5_askOf_27 (g_X5_askOf_14 n) fw_fuel x2 x3 x4 x5 (nI 0) (nI 1) I
    )
def g_X5_askOf (x1 : Int32) (I : MI) : Option (Int32 × MI) :=
  mc (g_X5_weightsBy x1 I) fun v2 I1 =>
  g_X5_askOf_14 fw_fuel v2 (-nI 1) (nI 0) (nI 0) I1
def g_X5_chanceOf_58 (rec10 : Int32 → Int32 → Int32 → Int64 → Int32 → MI → Option (Int64 × MI)) (rec27 : Int32 → Int32 → Int32 → Int64 → Int32 → Int64 → Int32 → MI → Option (Int64 × MI)) (x1 : Int32) (x2 : Int32) (x3 : Int32) (y4 : Int64) (x6 : Int32) (x9 : Int32) (sy0 : Int64) (sy1 : Int64) (I : MI) : Option (Int64 × MI) :=
  rec27 x1 x2 x3 y4 x6 (sy1 * sy0) (x9 + (nI 1)) I
def g_X5_chanceOf_103 (rec10 : Int32 → Int32 → Int32 → Int64 → Int32 → MI → Option (Int64 × MI)) (x1 : Int32) (x2 : Int32) (x3 : Int32) (y4 : Int64) (x6 : Int32) (I : MI) : Option (Int64 × MI) :=
  rec10 x1 x2 x3 y4 (x6 + (nI 1)) I
def g_X5_chanceOf_100 (rec10 : Int32 → Int32 → Int32 → Int64 → Int32 → MI → Option (Int64 × MI)) (x1 : Int32) (x2 : Int32) (x3 : Int32) (x6 : Int32) (sy0 : Int64) (sy1 : Int64) (I : MI) : Option (Int64 × MI) :=
  g_X5_chanceOf_103 rec10 x1 x2 x3 (sy1 + sy0) x6 I
def g_X5_chanceOf_27 (rec10 : Int32 → Int32 → Int32 → Int64 → Int32 → MI → Option (Int64 × MI)) : Nat → Int32 → Int32 → Int32 → Int64 → Int32 → Int64 → Int32 → MI → Option (Int64 × MI)
  | 0, _, _, _, _, _, _, _, _ => none
  | n + 1, x1, x2, x3, y4, x6, y7, x9, I =>
    mg I 9 fun v1 =>
    if v1 ≤ x9 then (
      if y7 ≤ (0 : Int64) then (
        g_X5_chanceOf_103 rec10 x1 x2 x3 y4 x6 I
      ) else (
        mp I 14 x6 fun I2 =>
        mc (g_X5_runs I2) fun _ I3 =>
        mg I3 22 fun v4 =>
        if v4 = x2 then (
          g_X5_chanceOf_100 rec10 x1 x2 x3 x6 y7 y4 I3
        ) else (
          g_X5_chanceOf_100 rec10 x1 x2 x3 x6 (0 : Int64) y4 I3
        )
      )
    ) else (
      mc (g_X5_isIn x6 x9 I) fun v6 I5 =>
      if v6 = 0 then (
        g_X5_chanceOf_58 rec10 (g_X5_chanceOf_27 rec10 n) x1 x2 x3 y4 x6 x9 x1.toInt64 y7 I5
      ) else (
        g_X5_chanceOf_58 rec10 (g_X5_chanceOf_27 rec10 n) x1 x2 x3 y4 x6 x9 ((nI 16) - x1).toInt64 y7 I5
      )
    )
def g_X5_chanceOf_10 : Nat → Int32 → Int32 → Int32 → Int64 → Int32 → MI → Option (Int64 × MI)
  | 0, _, _, _, _, _, _ => none
  | n + 1, x1, x2, x3, y4, x6, I =>
    mg I 9 fun v1 =>
    if ((nI 1) <<< (v1 &&& 31)) ≤ x6 then (
      mg I 9 fun v2 =>
      mc (g_X5_lowest y4 ((1 : Int64) <<< (((nI 4) * v2).toInt64 &&& 63)) x3 I) fun v4 I3 =>
      some (v4, I3)
    ) else (
      g_X5_chanceOf_27 (g_X5_chanceOf_10 n) fw_fuel x1 x2 x3 y4 x6 (1 : Int64) (nI 0) I
    )
def g_X5_chanceOf (x1 : Int32) (x2 : Int32) (x3 : Int32) (I : MI) : Option (Int64 × MI) :=
  mc (g_X5_asTold I) fun _ I1 =>
  g_X5_chanceOf_10 fw_fuel x1 x2 x3 (0 : Int64) (nI 0) I1
def g_X5_yearsOf_66 (rec10 : Int32 → Int32 → Int32 → Int32 → MI → Option (Int32 × MI)) (x2 : Int32) (x3 : Int32) (x4 : Int32) (x5 : Int32) (sx0 : Int32) (sx1 : Int32) (I : MI) : Option (Int32 × MI) :=
  mw 48 12 sx1 sx0 I fun I2 =>
  rec10 x2 x3 x4 (x5 + (nI 1)) I2
def g_X5_yearsOf_38 (rec10 : Int32 → Int32 → Int32 → Int32 → MI → Option (Int32 × MI)) (x2 : Int32) (x3 : Int32) (x5 : Int32) (sx0 : Int32) (I : MI) : Option (Int32 × MI) :=
  if x2 ≤ x5 then (
    g_X5_yearsOf_66 rec10 x2 x3 sx0 x5 (nI 1) ((nI 24) + x5) I
  ) else (
    g_X5_yearsOf_66 rec10 x2 x3 sx0 x5 (((sx0.toUInt32 >>> ((nI 16).toUInt32 &&& Int32.toUInt32 31)).toInt32) - ((sx0.toUInt32 >>> ((nI 16).toUInt32 &&& Int32.toUInt32 31)).toInt32) / (nI 3) * (nI 3)) ((nI 24) + x5) I
  )
def g_X5_yearsOf_10 : Nat → Int32 → Int32 → Int32 → Int32 → MI → Option (Int32 × MI)
  | 0, _, _, _, _, _ => none
  | n + 1, x2, x3, x4, x5, I =>
    if (nI 24) ≤ x5 then (
      mc (g_X5_runs I) fun _ I1 =>
      if x3 = 0 then (
        mg I1 21 fun v3 =>
        some (v3, I1)
      ) else (
        mg I1 22 fun v2 =>
        some (v2, I1)
      )
    ) else (
      if x2 ≤ x5 then (
        g_X5_yearsOf_38 (g_X5_yearsOf_10 n) x2 x3 x5 x4 I
      ) else (
        g_X5_yearsOf_38 (g_X5_yearsOf_10 n) x2 x3 x5 (((1103515245 : Int32) * x4) + (nI 12345)) I
      )
    )
def g_X5_yearsOf (x1 : Int32) (x2 : Int32) (x3 : Int32) (I : MI) : Option (Int32 × MI) :=
  mc (g_X5_asTold I) fun _ I1 =>
  g_X5_yearsOf_10 fw_fuel x2 x3 x1 (nI 0) I1
def g_X5_fault (x1 : Int32) (I : MI) : Option (Int32 × MI) :=
  mc (g_X5_isText x1 I) fun v2 I1 =>
  if v2 = 0 then (
    some ((-nI 2), I1)
  ) else (
    mc (g_X5_faultOf x1 I1) fun v4 I3 =>
    some (v4, I3)
  )
def g_X5_isPuller (x1 : Int32) (I : MI) : Option (Int32 × MI) :=
  mc (g_X5_reads I) fun _ I1 =>
  mc (g_X5_isThereOne x1 I1) fun v3 I2 =>
  mb v3 <|
  some (v3, I2)
def g_X5_call (x1 : Int32) (x2 : Int32) (I : MI) : Option (Int32 × MI) :=
  mc (g_X5_isTwo x1 I) fun v2 I1 =>
  if v2 = 0 then (
    some ((-nI 2), I1)
  ) else (
    mc (g_X5_isBeat x2 I1) fun v4 I3 =>
    if v4 = 0 then (
      some ((-nI 2), I3)
    ) else (
      mc (g_X5_callOf x1 x2 I3) fun v6 I5 =>
      some (v6, I5)
    )
  )
def g_X5_runsTold (I : MI) : Option (Unit × MI) :=
  mc (g_X5_asTold I) fun _ I1 =>
  mc (g_X5_runs I1) fun _ I2 =>
  some ((), I2)
def g_X5_atOf (x1 : Int32) (x2 : Int32) (x3 : Int32) (I : MI) : Option (Int32 × MI) :=
  mc (g_X5_runsTold I) fun _ I1 =>
  if x3 = 0 then (
    md 384 22 (((nI 16) * x1) + x2) I1 fun v7 =>
    some (v7, I1)
  ) else (
    md 384 23 (((nI 16) * x1) + x2) I1 fun v4 =>
    some (v4, I1)
  )
def g_X5_wonOf (x1 : Int32) (I : MI) : Option (Int32 × MI) :=
  mc (g_X5_runsTold I) fun _ I1 =>
  if x1 = 0 then (
    mg I1 22 fun v3 =>
    some (v3, I1)
  ) else (
    mg I1 23 fun v2 =>
    some (v2, I1)
  )
def g_X5_furthestOf_69 (rec9 : Int32 → Int32 → Int32 → MI → Option (Int32 × MI)) (x1 : Int32) (x3 : Int32) (sx0 : Int32) (I : MI) : Option (Int32 × MI) :=
  rec9 x1 sx0 (x3 + (nI 1)) I
def g_X5_furthestOf_52 (rec9 : Int32 → Int32 → Int32 → MI → Option (Int32 × MI)) (x1 : Int32) (x2 : Int32) (x3 : Int32) (sx0 : Int32) (I : MI) : Option (Int32 × MI) :=
  if sx0 = 0 then (
    g_X5_furthestOf_69 rec9 x1 x3 x2 I
  ) else (
    md 24 19 x3 I fun v3 =>
    g_X5_furthestOf_69 rec9 x1 x3 v3 I
  )
def g_X5_furthestOf_9 : Nat → Int32 → Int32 → Int32 → MI → Option (Int32 × MI)
  | 0, _, _, _, _ => none
  | n + 1, x1, x2, x3, I =>
    if (nI 24) ≤ x3 then (
      some (x2, I)
    ) else (
      if x1 = 0 then (
        md 24 19 x3 I fun v6 =>
        if v6 ≤ x2 then (
          g_X5_furthestOf_52 (g_X5_furthestOf_9 n) x1 x2 x3 (nI 0) I
        ) else (
          g_X5_furthestOf_52 (g_X5_furthestOf_9 n) x1 x2 x3 (nI 1) I
        )
      ) else (
        md 24 19 x3 I fun v3 =>
        if x2 ≤ v3 then (
          g_X5_furthestOf_52 (g_X5_furthestOf_9 n) x1 x2 x3 (nI 0) I
        ) else (
          g_X5_furthestOf_52 (g_X5_furthestOf_9 n) x1 x2 x3 (nI 1) I
        )
      )
    )
def g_X5_furthestOf (x1 : Int32) (I : MI) : Option (Int32 × MI) :=
  mc (g_X5_runsTold I) fun _ I1 =>
  g_X5_furthestOf_9 fw_fuel x1 (nI 12) (nI 0) I1
def g_X5_doneOf (x1 : Int32) (I : MI) : Option (Int32 × MI) :=
  mc (g_X5_runsTold I) fun _ I1 =>
  md 16 16 x1 I1 fun v4 =>
  some (v4, I1)
def g_X5_spentOf_39 (rec8 : Int32 → Int32 → MI → Option (Int32 × MI)) (x2 : Int32) (sx0 : Int32) (sx1 : Int32) (I : MI) : Option (Int32 × MI) :=
  rec8 (sx1 ||| sx0) (x2 + (nI 1)) I
def g_X5_spentOf_38 (rec8 : Int32 → Int32 → MI → Option (Int32 × MI)) (x2 : Int32) (sx0 : Int32) (I : MI) : Option (Int32 × MI) :=
  g_X5_spentOf_39 rec8 x2 (nI 0) sx0 I
def g_X5_spentOf_8 : Nat → Int32 → Int32 → MI → Option (Int32 × MI)
  | 0, _, _, _ => none
  | n + 1, x1, x2, I =>
    if (nI 16) ≤ x2 then (
      some (x1, I)
    ) else (
      mc (g_X5_isThereOne x2 I) fun v2 I1 =>
      if v2 = 0 then (
        g_X5_spentOf_38 (g_X5_spentOf_8 n) x2 x1 I1
      ) else (
        md 16 15 x2 I1 fun v5 =>
        if v5 = 0 then (
          g_X5_spentOf_39 (g_X5_spentOf_8 n) x2 ((nI 1) <<< (x2 &&& 31)) x1 I1
        ) else (
          g_X5_spentOf_38 (g_X5_spentOf_8 n) x2 x1 I1
        )
      )
    )
def g_X5_spentOf (I : MI) : Option (Int32 × MI) :=
  mc (g_X5_runsTold I) fun _ I1 =>
  g_X5_spentOf_8 fw_fuel (nI 0) (nI 0) I1
def g_X5_bestOf_52 (rec10 : Int32 → Int32 → Int32 → MI → Option (Int32 × MI)) (x1 : Int32) (x3 : Int32) (sx0 : Int32) (I : MI) : Option (Int32 × MI) :=
  rec10 x1 sx0 (x3 + (nI 1)) I
def g_X5_bestOf_31 (rec10 : Int32 → Int32 → Int32 → MI → Option (Int32 × MI)) (x2 : Int32) (x3 : Int32) (sx0 : Int32) (I : MI) : Option (Int32 × MI) :=
  md 16 16 x3 I fun v3 =>
  if v3 ≤ x2 then (
    g_X5_bestOf_52 rec10 sx0 x3 x2 I
  ) else (
    md 16 16 x3 I fun v6 =>
    g_X5_bestOf_52 rec10 sx0 x3 v6 I
  )
def g_X5_bestOf_10 : Nat → Int32 → Int32 → Int32 → MI → Option (Int32 × MI)
  | 0, _, _, _, _ => none
  | n + 1, x1, x2, x3, I =>
    if (nI 16) ≤ x3 then (
      some (x1, I)
    ) else (
      md 16 16 x3 I fun v3 =>
      if v3 ≤ x2 then (
        g_X5_bestOf_31 (g_X5_bestOf_10 n) x2 x3 x1 I
      ) else (
        g_X5_bestOf_31 (g_X5_bestOf_10 n) x2 x3 x3 I
      )
    )
def g_X5_bestOf (I : MI) : Option (Int32 × MI) :=
  mc (g_X5_runsTold I) fun _ I1 =>
  g_X5_bestOf_10 fw_fuel (-nI 1) (nI 0) (nI 0) I1
def g_X5_levelOf (I : MI) : Option (Int32 × MI) :=
  mc (g_X5_runsTold I) fun _ I1 =>
  mg I1 24 fun v2 =>
  some (v2, I1)
def g_X5_betterOf_7 : Nat → Int32 → Int32 → Int32 → Int32 → MI → Option (Int32 × MI)
  | 0, _, _, _, _, _ => none
  | n + 1, x1, x2, x3, x4, I =>
    if (nI 3) ≤ x4 then (
      if x3 = 0 then (
        mg I 34 fun v2 =>
        some (v2, I)
      ) else (
        mg I 35 fun v1 =>
        some (v1, I)
      )
    ) else (
      mw 48 12 (((nI 24) * x1) + x2) x4 I fun I5 =>
      mc (g_X5_tries x4 x1 I5) fun _ I6 =>
      g_X5_betterOf_7 n x1 x2 x3 (x4 + (nI 1)) I6
    )
def g_X5_betterOf (x1 : Int32) (x2 : Int32) (x3 : Int32) (I : MI) : Option (Int32 × MI) :=
  mc (g_X5_starts I) fun _ I1 =>
  g_X5_betterOf_7 fw_fuel x1 x2 x3 (nI 0) I1
def g_X5_swap (x1 : Int32) (x2 : Int32) (I : MI) : Option (Int32 × MI) :=
  mc (g_X5_isTwo x1 I) fun v2 I1 =>
  if v2 = 0 then (
    some ((-nI 2), I1)
  ) else (
    mc (g_X5_isThree x2 I1) fun v4 I3 =>
    if v4 = 0 then (
      some ((-nI 2), I3)
    ) else (
      mc (g_X5_swapOf x1 x2 I3) fun v6 I5 =>
      some (v6, I5)
    )
  )
def g_X5_out (x1 : Int32) (x2 : Int32) (I : MI) : Option (Int32 × MI) :=
  mc (g_X5_isTwo x1 I) fun v2 I1 =>
  if v2 = 0 then (
    some ((-nI 2), I1)
  ) else (
    mc (g_X5_isTwo x2 I1) fun v4 I3 =>
    if v4 = 0 then (
      some ((-nI 2), I3)
    ) else (
      mc (g_X5_outOf x1 x2 I3) fun v6 I5 =>
      some (v6, I5)
    )
  )
def g_X5_spareBy_63 (rec51 : Int32 → MI → Option (Int32 × MI)) : Nat → Int32 → Int32 → MI → Option (Int32 × MI)
  | 0, _, _, _ => none
  | n + 1, x1, x2, I =>
    mg I 9 fun v1 =>
    if v1 ≤ x2 then (
      rec51 (x1 + (nI 1)) I
    ) else (
      mw 2 24 (nI 0) x1 I fun I4 =>
      mw 2 24 (nI 1) x2 I4 fun I7 =>
      mc (g_X5_isSpared (((nI 1) <<< (x1 &&& 31)) ||| ((nI 1) <<< (x2 &&& 31))) I7) fun v9 I8 =>
      if v9 = 0 then (
        g_X5_spareBy_63 rec51 n x1 (x2 + (nI 1)) I8
      ) else (
        some ((nI 2), I8)
      )
    )
def g_X5_spareBy_51 : Nat → Int32 → MI → Option (Int32 × MI)
  | 0, _, _ => none
  | n + 1, x1, I =>
    mg I 9 fun v1 =>
    if v1 ≤ x1 then (
      some ((-nI 1), I)
    ) else (
      g_X5_spareBy_63 (g_X5_spareBy_51 n) fw_fuel x1 (x1 + (nI 1)) I
    )
def g_X5_spareBy_16 : Nat → Int32 → MI → Option (Int32 × MI)
  | 0, _, _ => none
  | n + 1, x1, I =>
    mg I 9 fun v1 =>
    if v1 ≤ x1 then (
      g_X5_spareBy_51 fw_fuel (nI 0) I
    ) else (
      mw 2 24 (nI 0) x1 I fun I4 =>
      mc (g_X5_isSpared ((nI 1) <<< (x1 &&& 31)) I4) fun v6 I5 =>
      if v6 = 0 then (
        g_X5_spareBy_16 n (x1 + (nI 1)) I5
      ) else (
        some ((nI 1), I5)
      )
    )
def g_X5_spareBy (I : MI) : Option (Int32 × MI) :=
  mc (g_X5_asTold I) fun _ I1 =>
  mc (g_X5_isSpared (nI 0) I1) fun v3 I2 =>
  if v3 = 0 then (
    g_X5_spareBy_16 fw_fuel (nI 0) I2
  ) else (
    some ((nI 0), I2)
  )
def g_X5_neverNow_38 (rec8 : Int32 → Int32 → MI → Option (Int32 × MI)) (x2 : Int32) (sx0 : Int32) (sx1 : Int32) (I : MI) : Option (Int32 × MI) :=
  rec8 (sx1 ||| sx0) (x2 + (nI 1)) I
def g_X5_neverNow_8 : Nat → Int32 → Int32 → MI → Option (Int32 × MI)
  | 0, _, _, _ => none
  | n + 1, x1, x2, I =>
    mg I 9 fun v1 =>
    if v1 ≤ x2 then (
      some (x1, I)
    ) else (
      mp I 14 ((nI 1) <<< (x2 &&& 31)) fun I2 =>
      mc (g_X5_isSeen I2) fun v4 I3 =>
      if v4 = 0 then (
        g_X5_neverNow_38 (g_X5_neverNow_8 n) x2 (nI 0) x1 I3
      ) else (
        g_X5_neverNow_38 (g_X5_neverNow_8 n) x2 ((nI 1) <<< (x2 &&& 31)) x1 I3
      )
    )
def g_X5_neverNow (I : MI) : Option (Int32 × MI) :=
  mc (g_X5_asTold I) fun _ I1 =>
  g_X5_neverNow_8 fw_fuel (nI 0) (nI 0) I1
def g_X5_was (x1 : Int32) (x2 : Int32) (I : MI) : Option (Int32 × MI) :=
  mc (g_X5_isPuller x1 I) fun v2 I1 =>
  if v2 = 0 then (
    some ((-nI 2), I1)
  ) else (
    mc (g_X5_isTwo x2 I1) fun v4 I3 =>
    if v4 = 0 then (
      some ((-nI 2), I3)
    ) else (
      if x2 = 0 then (
        mc (g_X5_weightsBy x1 I3) fun v8 I7 =>
        some (v8, I7)
      ) else (
        mc (g_X5_sortsBy x1 I3) fun v6 I5 =>
        some (v6, I5)
      )
    )
  )
def g_X5_ask (x1 : Int32) (I : MI) : Option (Int32 × MI) :=
  mc (g_X5_isPuller x1 I) fun v2 I1 =>
  if v2 = 0 then (
    some ((-nI 2), I1)
  ) else (
    mc (g_X5_askOf x1 I1) fun v4 I3 =>
    some (v4, I3)
  )
def g_X5_chance_34 (I : MI) : Option (Int64 × MI) :=
  mc (g_X5_no (-nI 2) I) fun v2 I1 =>
  some (v2, I1)
def g_X5_chance (x1 : Int32) (x2 : Int32) (x3 : Int32) (I : MI) : Option (Int64 × MI) :=
  mc (g_X5_in x1 (nI 0) (nI 16) I) fun v2 I1 =>
  if v2 = 0 then (
    g_X5_chance_34 I1
  ) else (
    mc (g_X5_isTwo x2 I1) fun v4 I3 =>
    if v4 = 0 then (
      g_X5_chance_34 I3
    ) else (
      mc (g_X5_isTwo x3 I3) fun v6 I5 =>
      if v6 = 0 then (
        g_X5_chance_34 I5
      ) else (
        mc (g_X5_chanceOf x1 x2 x3 I5) fun v8 I7 =>
        some (v8, I7)
      )
    )
  )
def g_X5_years (x1 : Int32) (x2 : Int32) (x3 : Int32) (I : MI) : Option (Int32 × MI) :=
  mc (g_X5_in x2 (nI 0) (nI 24) I) fun v2 I1 =>
  if v2 = 0 then (
    some ((-nI 2), I1)
  ) else (
    mc (g_X5_isTwo x3 I1) fun v4 I3 =>
    if v4 = 0 then (
      some ((-nI 2), I3)
    ) else (
      mc (g_X5_yearsOf x1 x2 x3 I3) fun v6 I5 =>
      some (v6, I5)
    )
  )
def g_X5_write_31 : Nat → Int32 → Int32 → MI → Option (Int32 × MI)
  | 0, _, _, _ => none
  | n + 1, x1, x2, I =>
    md 4 30 x1 I fun v3 =>
    if v3 ≤ x2 then (
      some (x2, I)
    ) else (
      if (nI 24) ≤ x2 then (
        some (x2, I)
      ) else (
        md 24 19 x2 I fun v6 =>
        mc (g_X5_keep x1 x2 v6 I) fun _ I7 =>
        g_X5_write_31 n x1 (x2 + (nI 1)) I7
      )
    )
def g_X5_write (x1 : Int32) (I : MI) : Option (Int32 × MI) :=
  mc (g_X5_isSheet x1 I) fun v2 I1 =>
  if v2 = 0 then (
    some ((-nI 2), I1)
  ) else (
    md 4 28 x1 I1 fun v5 =>
    if v5 = 0 then (
      mc (g_X5_meets (nI 1) I1) fun v8 I7 =>
      some (v8, I7)
    ) else (
      mc (g_X5_runsTold I1) fun _ I6 =>
      g_X5_write_31 fw_fuel x1 (nI 0) I6
    )
  )
def g_X5_tellOf (x1 : Int32) (I : MI) : Option (Int32 × MI) :=
  mc (g_X5_runsTold I) fun _ I1 =>
  if (nI 2) ≤ x1 then (
    if (nI 4) ≤ x1 then (
      mg I1 21 fun v2 =>
      some (v2, I1)
    ) else (
      md 2 7 (x1 - (nI 2)) I1 fun v5 =>
      some (v5, I1)
    )
  ) else (
    md 2 3 x1 I1 fun v8 =>
    some (v8, I1)
  )
def g_X5_beatDigest (y1 : Int64) (x3 : Int32) (x4 : Int32) (I : MI) : Option (Int64 × MI) :=
  mc (g_X5_atOf x3 x4 (nI 0) I) fun v2 I1 =>
  mc (g_X5_atOf x3 x4 (nI 1) I1) fun v4 I3 =>
  some ((((31 : Int64) * (((31 : Int64) * y1) + v2.toInt64)) + v4.toInt64), I3)
def g_X5_teamDigest_36 : Nat → Int32 → Int64 → Int32 → MI → Option (Int64 × MI)
  | 0, _, _, _, _ => none
  | n + 1, x3, y4, x6, I =>
    if (nI 3) ≤ x6 then (
      mc (g_X5_outOf x3 (nI 0) I) fun v2 I1 =>
      mc (g_X5_outOf x3 (nI 1) I1) fun v4 I3 =>
      mc (g_X5_chanceOf (nI 5) x3 (nI 0) I3) fun v6 I5 =>
      mc (g_X5_chanceOf (nI 5) x3 (nI 1) I5) fun v8 I7 =>
      some ((((31 : Int64) * (((31 : Int64) * (((31 : Int64) * (((31 : Int64) * y4) + v2.toInt64)) + v4.toInt64)) + v6)) + v8), I7)
    ) else (
      mc (g_X5_swapOf x3 x6 I) fun v10 I9 =>
      g_X5_teamDigest_36 n x3 (((31 : Int64) * y4) + v10.toInt64) (x6 + (nI 1)) I9
    )
def g_X5_teamDigest (y1 : Int64) (x3 : Int32) (I : MI) : Option (Int64 × MI) :=
  mc (g_X5_betterOf x3 (nI 4) (nI 0) I) fun v2 I1 =>
  mc (g_X5_betterOf x3 (nI 4) (nI 1) I1) fun v4 I3 =>
  g_X5_teamDigest_36 fw_fuel x3 (((31 : Int64) * (((31 : Int64) * y1) + v2.toInt64)) + v4.toInt64) (nI 0) I3
def g_X5_puller (x1 : Int32) (x2 : Int32) (I : MI) : Option (Int32 × MI) :=
  mc (g_X5_isPuller x1 I) fun v2 I1 =>
  if v2 = 0 then (
    some ((-nI 2), I1)
  ) else (
    mc (g_X5_isThree x2 I1) fun v4 I3 =>
    if v4 = 0 then (
      some ((-nI 2), I3)
    ) else (
      mc (g_X5_pullerOf x1 x2 I3) fun v6 I5 =>
      some (v6, I5)
    )
  )
def g_X5_ropeOf (x1 : Int32) (x2 : Int32) (I : MI) : Option (Int32 × MI) :=
  mc (g_X5_runsTold I) fun _ I1 =>
  if x2 = 0 then (
    md 24 19 x1 I1 fun v10 =>
    some (v10, I1)
  ) else (
    if x2 = (nI 3) then (
      md 24 20 x1 I1 fun v7 =>
      some (v7, I1)
    ) else (
      md 48 21 ((((nI 2) * x1) + x2) - (nI 1)) I1 fun v4 =>
      some (v4, I1)
    )
  )
def g_X5_at (x1 : Int32) (x2 : Int32) (x3 : Int32) (I : MI) : Option (Int32 × MI) :=
  mc (g_X5_isBeat x1 I) fun v2 I1 =>
  if v2 = 0 then (
    some ((-nI 2), I1)
  ) else (
    mc (g_X5_isPuller x2 I1) fun v4 I3 =>
    if v4 = 0 then (
      some ((-nI 2), I3)
    ) else (
      mc (g_X5_isTwo x3 I3) fun v6 I5 =>
      if v6 = 0 then (
        some ((-nI 2), I5)
      ) else (
        mc (g_X5_atOf x1 x2 x3 I5) fun v8 I7 =>
        some (v8, I7)
      )
    )
  )
def g_X5_won (x1 : Int32) (I : MI) : Option (Int32 × MI) :=
  mc (g_X5_isTwo x1 I) fun v2 I1 =>
  if v2 = 0 then (
    some ((-nI 2), I1)
  ) else (
    mc (g_X5_wonOf x1 I1) fun v4 I3 =>
    some (v4, I3)
  )
def g_X5_furthest (x1 : Int32) (I : MI) : Option (Int32 × MI) :=
  mc (g_X5_isTwo x1 I) fun v2 I1 =>
  if v2 = 0 then (
    some ((-nI 2), I1)
  ) else (
    mc (g_X5_furthestOf x1 I1) fun v4 I3 =>
    some (v4, I3)
  )
def g_X5_done (x1 : Int32) (I : MI) : Option (Int32 × MI) :=
  mc (g_X5_isPuller x1 I) fun v2 I1 =>
  if v2 = 0 then (
    some ((-nI 2), I1)
  ) else (
    mc (g_X5_doneOf x1 I1) fun v4 I3 =>
    some (v4, I3)
  )
def g_X5_spent (I : MI) : Option (Int32 × MI) :=
  mc (g_X5_spentOf I) fun v2 I1 =>
  some (v2, I1)
def g_X5_best (I : MI) : Option (Int32 × MI) :=
  mc (g_X5_bestOf I) fun v2 I1 =>
  some (v2, I1)
def g_X5_level (I : MI) : Option (Int32 × MI) :=
  mc (g_X5_levelOf I) fun v2 I1 =>
  some (v2, I1)
def g_X5_better (x1 : Int32) (x2 : Int32) (x3 : Int32) (I : MI) : Option (Int32 × MI) :=
  mc (g_X5_isTwo x1 I) fun v2 I1 =>
  if v2 = 0 then (
    some ((-nI 2), I1)
  ) else (
    mc (g_X5_isBeat x2 I1) fun v4 I3 =>
    if v4 = 0 then (
      some ((-nI 2), I3)
    ) else (
      mc (g_X5_isTwo x3 I3) fun v6 I5 =>
      if v6 = 0 then (
        some ((-nI 2), I5)
      ) else (
        mc (g_X5_betterOf x1 x2 x3 I5) fun v8 I7 =>
        some (v8, I7)
      )
    )
  )
def g_X5_spare (x1 : Int32) (I : MI) : Option (Int32 × MI) :=
  mc (g_X5_in x1 (-nI 1) (nI 1) I) fun v2 I1 =>
  if v2 = 0 then (
    some ((-nI 2), I1)
  ) else (
    mc (g_X5_spareBy I1) fun v4 I3 =>
    mc (g_X5_ofRow v4 x1 I3) fun v6 I5 =>
    some (v6, I5)
  )
def g_X5_never (I : MI) : Option (Int32 × MI) :=
  mc (g_X5_neverNow I) fun v2 I1 =>
  some (v2, I1)
def g_X5_count_52 (x1 : Int32) (I : MI) : Option (Int32 × MI) :=
  mc (g_X5_tellOf x1 I) fun v2 I1 =>
  some (v2, I1)
def g_X5_count (x1 : Int32) (I : MI) : Option (Int32 × MI) :=
  if x1 = (nI 0) then (
    g_X5_count_52 x1 I
  ) else (
    if x1 = (nI 1) then (
      g_X5_count_52 x1 I
    ) else (
      if x1 = (nI 2) then (
        g_X5_count_52 x1 I
      ) else (
        if x1 = (nI 3) then (
          g_X5_count_52 x1 I
        ) else (
          if x1 = (nI 4) then (
            md 4 1 (nI 0) I fun v3 =>
            md 4 1 (nI 1) I fun v6 =>
            md 4 1 (nI 2) I fun v9 =>
            md 4 1 (nI 3) I fun v12 =>
            some ((((v3 + v6) + v9) + v12), I)
          ) else (
            if x1 = (nI 5) then (
              mg I 9 fun v13 =>
              some (v13, I)
            ) else (
              if x1 = (nI 6) then (
                g_X5_count_52 x1 I
              ) else (
                if x1 = (nI 7) then (
                  mg I 37 fun v14 =>
                  some (v14, I)
                ) else (
                  if x1 = (nI 8) then (
                    mg I 46 fun v15 =>
                    some (v15, I)
                  ) else (
                    some ((-nI 2), I)
                  )
                )
              )
            )
          )
        )
      )
    )
  )
def g_X5_pullerDigest_6 : Nat → Int32 → Int64 → Int32 → MI → Option (Int64 × MI)
  | 0, _, _, _, _ => none
  | n + 1, x3, y4, x6, I =>
    if (nI 3) ≤ x6 then (
      mc (g_X5_beatDigest y4 (nI 0) x3 I) fun v2 I1 =>
      mc (g_X5_beatDigest v2 (nI 5) x3 I1) fun v4 I3 =>
      mc (g_X5_beatDigest v4 (nI 12) x3 I3) fun v6 I5 =>
      mc (g_X5_beatDigest v6 (nI 23) x3 I5) fun v8 I7 =>
      mc (g_X5_doneOf x3 I7) fun v10 I9 =>
      mc (g_X5_weightsBy x3 I9) fun v12 I11 =>
      mc (g_X5_sortsBy x3 I11) fun v14 I13 =>
      mc (g_X5_askOf x3 I13) fun v16 I15 =>
      some ((((31 : Int64) * (((31 : Int64) * (((31 : Int64) * (((31 : Int64) * v8) + v10.toInt64)) + v12.toInt64)) + v14.toInt64)) + v16.toInt64), I15)
    ) else (
      mc (g_X5_pullerOf x3 x6 I) fun v18 I17 =>
      g_X5_pullerDigest_6 n x3 (((31 : Int64) * y4) + v18.toInt64) (x6 + (nI 1)) I17
    )
def g_X5_pullerDigest (y1 : Int64) (x3 : Int32) (I : MI) : Option (Int64 × MI) :=
  g_X5_pullerDigest_6 fw_fuel x3 y1 (nI 0) I
def g_X5_rope (x1 : Int32) (x2 : Int32) (I : MI) : Option (Int32 × MI) :=
  mc (g_X5_isBeat x1 I) fun v2 I1 =>
  if v2 = 0 then (
    some ((-nI 2), I1)
  ) else (
    mc (g_X5_in x2 (nI 0) (nI 3) I1) fun v4 I3 =>
    if v4 = 0 then (
      some ((-nI 2), I3)
    ) else (
      mc (g_X5_ropeOf x1 x2 I3) fun v6 I5 =>
      some (v6, I5)
    )
  )
def g_X5_digest_96 (rec59 : Int64 → Int32 → MI → Option (Int64 × MI)) : Nat → Int64 → Int32 → Int32 → MI → Option (Int64 × MI)
  | 0, _, _, _, _ => none
  | n + 1, y1, x3, x4, I =>
    if (nI 4) ≤ x4 then (
      rec59 y1 (x3 + (nI 1)) I
    ) else (
      mc (g_X5_ropeOf x3 x4 I) fun v2 I1 =>
      g_X5_digest_96 rec59 n (((31 : Int64) * y1) + v2.toInt64) x3 (x4 + (nI 1)) I1
    )
def g_X5_digest_152 (rec131 : Int64 → Int32 → MI → Option (Int64 × MI)) (y1 : Int64) (x3 : Int32) (I : MI) : Option (Int64 × MI) :=
  rec131 y1 (x3 + (nI 1)) I
def g_X5_digest_131 : Nat → Int64 → Int32 → MI → Option (Int64 × MI)
  | 0, _, _, _ => none
  | n + 1, y1, x3, I =>
    if (nI 16) ≤ x3 then (
      mc (g_X5_teamDigest y1 (nI 0) I) fun v2 I1 =>
      mc (g_X5_teamDigest v2 (nI 1) I1) fun v4 I3 =>
      mc (g_X5_wonOf (nI 0) I3) fun v6 I5 =>
      mc (g_X5_wonOf (nI 1) I5) fun v8 I7 =>
      mc (g_X5_furthestOf (nI 0) I7) fun v10 I9 =>
      mc (g_X5_furthestOf (nI 1) I9) fun v12 I11 =>
      mc (g_X5_spentOf I11) fun v14 I13 =>
      mc (g_X5_bestOf I13) fun v16 I15 =>
      mc (g_X5_levelOf I15) fun v18 I17 =>
      mc (g_X5_spareBy I17) fun v20 I19 =>
      mc (g_X5_ofRow v20 (nI 0) I19) fun v22 I21 =>
      mc (g_X5_neverNow I21) fun v24 I23 =>
      mc (g_X5_yearsOf (nI 7) (nI 18) (nI 0) I23) fun v26 I25 =>
      mc (g_X5_yearsOf (nI 7) (nI 18) (nI 1) I25) fun v28 I27 =>
      some ((((31 : Int64) * (((31 : Int64) * (((31 : Int64) * (((31 : Int64) * (((31 : Int64) * (((31 : Int64) * (((31 : Int64) * (((31 : Int64) * (((31 : Int64) * (((31 : Int64) * (((31 : Int64) * (((31 : Int64) * v4) + v6.toInt64)) + v8.toInt64)) + v10.toInt64)) + v12.toInt64)) + v14.toInt64)) + v16.toInt64)) + v18.toInt64)) + v20.toInt64)) + v22.toInt64)) + v24.toInt64)) + v26.toInt64)) + v28.toInt64), I27)
    ) else (
      mc (g_X5_isThereOne x3 I) fun v30 I29 =>
      if v30 = 0 then (
        g_X5_digest_152 (g_X5_digest_131 n) y1 x3 I29
      ) else (
        mc (g_X5_pullerDigest y1 x3 I29) fun v32 I31 =>
        g_X5_digest_152 (g_X5_digest_131 n) v32 x3 I31
      )
    )
def g_X5_digest_59 : Nat → Int64 → Int32 → MI → Option (Int64 × MI)
  | 0, _, _, _ => none
  | n + 1, y1, x3, I =>
    if (nI 24) ≤ x3 then (
      g_X5_digest_131 fw_fuel y1 (nI 0) I
    ) else (
      mc (g_X5_callOf (nI 0) x3 I) fun v2 I1 =>
      mc (g_X5_callOf (nI 1) x3 I1) fun v4 I3 =>
      g_X5_digest_96 (g_X5_digest_59 n) fw_fuel (((31 : Int64) * (((31 : Int64) * y1) + v2.toInt64)) + v4.toInt64) x3 (nI 0) I3
    )
def g_X5_digest_33 : Nat → Int64 → Int32 → MI → Option (Int64 × MI)
  | 0, _, _, _ => none
  | n + 1, y1, x3, I =>
    if (nI 4) ≤ x3 then (
      g_X5_digest_59 fw_fuel y1 (nI 0) I
    ) else (
      mc (g_X5_faultOf x3 I) fun v2 I1 =>
      g_X5_digest_33 n (((31 : Int64) * y1) + v2.toInt64) (x3 + (nI 1)) I1
    )
def g_X5_digest_6 : Nat → Int64 → Int32 → MI → Option (Int64 × MI)
  | 0, _, _, _ => none
  | n + 1, y1, x3, I =>
    if (nI 8) ≤ x3 then (
      g_X5_digest_33 fw_fuel y1 (nI 0) I
    ) else (
      mc (g_X5_count x3 I) fun v2 I1 =>
      g_X5_digest_6 n (((31 : Int64) * y1) + v2.toInt64) (x3 + (nI 1)) I1
    )
def g_X5_digest (I : MI) : Option (Int64 × MI) :=
  g_X5_digest_6 fw_fuel (17 : Int64) (nI 0) I
