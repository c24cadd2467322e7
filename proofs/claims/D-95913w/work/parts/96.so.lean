set_option maxRecDepth 100000
/-! What the asking operations answer. -/
abbrev bd (x : Int32) (N : Nat) : Prop := x < nI 0 ∨ nI N < x
abbrev oN (x : Int32) : Nat := x.toNatClampNeg
theorem bd_or (x : Int32) {N : Nat} (hN : N < 2 ^ 31) : bd x N ∨ ∃ k, k ≤ N ∧ x = nI k := by
  by_cases h : bd x N
  · exact Or.inl h
  · refine Or.inr ⟨x.toInt.toNat, ?_, ?_⟩
    · have h1 : ¬ x < nI 0 := fun z => h (Or.inl z)
      have h2 : ¬ nI N < x := fun z => h (Or.inr z)
      rw [Int32.lt_iff_toInt_lt, nI_toInt (by decide)] at h1
      rw [Int32.lt_iff_toInt_lt, nI_toInt hN] at h2
      omega
    · have h1 : ¬ x < nI 0 := fun z => h (Or.inl z)
      have h2 : ¬ nI N < x := fun z => h (Or.inr z)
      rw [Int32.lt_iff_toInt_lt, nI_toInt (by decide)] at h1
      rw [Int32.lt_iff_toInt_lt, nI_toInt hN] at h2
      refine Int32.toInt_inj.mp ?_
      rw [nI_toInt (by omega)]
      omega
theorem bd_no {k N : Nat} (hk : k ≤ N) (hN : N < 2 ^ 31) : ¬ bd (nI k) N := fun h => h.elim (fun z => by have := (nI_ltI (by omega) (by decide)).1 z; omega) (fun z => by have := (nI_ltI (by omega) (by omega)).1 z; omega)
theorem oN_e {k : Nat} (hk : k < 2 ^ 31) : oN (nI k) = k := nI_clamp hk
abbrev o_iP (P : CF) (x : Int32) : Prop := ¬ bd x 15 ∧ oN x % 8 < c_ma P (oN x / 8)
def o_fault (P : CF) (x : Int32) : Int32 := if bd x 3 then -nI 2 else c_fa P (oN x)
def o_puller (P : CF) (x y : Int32) : Int32 := if ¬ o_iP P x then -nI 2 else if bd y 2 then -nI 2 else nI (c_to P (oN y + 1) (oN x))
def o_call (P : CF) (x y : Int32) : Int32 := if bd x 1 then -nI 2 else if bd y 23 then -nI 2 else nI (c_to P 4 (24 * oN x + oN y))
def o_rope (P : CF) (x y : Int32) : Int32 := if bd x 23 then -nI 2 else if bd y 3 then -nI 2 else nI (v_rope (c_to P) (oN x) (oN y))
def o_at (P : CF) (x y z : Int32) : Int32 := if bd x 23 then -nI 2 else if ¬ o_iP P y then -nI 2 else if bd z 1 then -nI 2 else nI (v_at (c_to P) (oN x) (oN y) (oN z))
def o_won (P : CF) (x : Int32) : Int32 := if bd x 1 then -nI 2 else if oN x = 0 then v_wi (c_ro (c_to P)) else v_wb (c_rs (c_to P) 24 0 2)
def o_furthest (P : CF) (x : Int32) : Int32 := if bd x 1 then -nI 2 else nI (v_fu (c_to P) (oN x) 24)
def o_done (P : CF) (x : Int32) : Int32 := if ¬ o_iP P x then -nI 2 else nI (c_rs (c_to P) 24 2 (oN x))
def o_better (P : CF) (x y z : Int32) : Int32 := if bd x 1 then -nI 2 else if bd y 23 then -nI 2 else if bd z 1 then -nI 2 else v_bt (c_to P) (oN x) (oN y) (oN z)
def o_swap (P : CF) (x y : Int32) : Int32 := if bd x 1 then -nI 2 else if bd y 2 then -nI 2 else v_sw (c_to P) (oN x) (oN y)
def o_out (P : CF) (x y : Int32) : Int32 := if bd x 1 then -nI 2 else if bd y 1 then -nI 2 else v_ou (c_to P) (oN x) (oN y)
def o_spare (P : CF) (x : Int32) : Int32 := if x < -nI 1 ∨ nI 1 < x then -nI 2 else v_sr (c_to P) (P 3 0) x
def o_was (P : CF) (x y : Int32) : Int32 := if ¬ o_iP P x then -nI 2 else if bd y 1 then -nI 2 else if oN y = 0 then v_wt P (c_to P) (oN x) else v_so P (c_to P) (oN x)
def o_ask (P : CF) (x : Int32) : Int32 := if ¬ o_iP P x then -nI 2 else v_ak P (c_to P) (oN x)
def o_chance (P : CF) (x y z : Int32) : Int64 := if bd x 16 then (-9223372036854775808 : Int64) - (-nI 2).toInt64 else if bd y 1 then (-9223372036854775808 : Int64) - (-nI 2).toInt64 else if bd z 1 then (-9223372036854775808 : Int64) - (-nI 2).toInt64 else v_ch P (c_to P) (oN x) (oN y) (oN z)
def o_years (P : CF) (x y z : Int32) : Int32 := if bd y 24 then -nI 2 else if bd z 1 then -nI 2 else v_ye (c_to P) x (oN y) (oN z)
def o_count (P : CF) (x : Int32) : Int32 := if bd x 8 then -nI 2 else v_co P (c_to P) (oN x)
