set_option maxRecDepth 100000
/-! The component's texts: where a byte stands in a constant string; a byte is passed or not. -/
theorem fa_byte_small {n : Nat} (h : n < 128) : (nI n).toInt8.toInt32 = nI n := (by decide +kernel : ∀ n, n < 128 → (nI n).toInt8.toInt32 = nI n) n h
theorem x_byte {y c : Nat} (hy : y < 256) (hc : c < 128) : (nI c = (nI y).toInt8.toInt32) ↔ y = c := by
  by_cases h : y < 128
  · rw [fa_byte_small h, nI_eq (by omega) (by omega)]
    exact eq_comm
  · have := (by decide +kernel : ∀ y, y < 256 → ¬ y < 128 → (nI y).toInt8.toInt32 < 0) y hy h
    refine ⟨fun q => ?_, fun q => by omega⟩
    rw [← q] at this
    exact absurd this (nI_pos (by omega))
def x_sr : List Int32 → Int32 → Nat → Int32
  | [], _, _ => -nI 1
  | c :: l, x, i => if c = x then nI i else x_sr l x (i + 1)
theorem x_ioc {s : Nat} (hs : s < 4) (x4 : Int32) (L : LH) : ∀ (m i n : Nat), i + m = fw_sl.getD s 0 → m < n → f_J7_indexOfChar_7 n (some (fw_RO + (9 + s))) (nI (fw_sl.getD s 0)) x4 (nI i) L = some (x_sr ((fw_sb.getD s []).drop i) x4 i, L, 0, 0) := by
  have hl : fw_sl.getD s 0 = (fw_sb.getD s []).length := (by decide : ∀ s, s < 4 → fw_sl.getD s 0 = (fw_sb.getD s []).length) s hs
  have hb : fw_sl.getD s 0 ≤ 9 := (by decide : ∀ s, s < 4 → fw_sl.getD s 0 ≤ 9) s hs
  intro m
  induction m with
  | zero =>
    intro i n hi hn
    obtain ⟨n, rfl⟩ : ∃ q, n = q + 1 := ⟨n - 1, by omega⟩
    unfold f_J7_indexOfChar_7
    rw [if_pos (nI_le (by omega) (by omega)), List.drop_of_length_le (by omega)]
    rfl
  | succ m ih =>
    intro i n hi hn
    obtain ⟨n, rfl⟩ : ∃ q, n = q + 1 := ⟨n - 1, by omega⟩
    have hil : i < (fw_sb.getD s []).length := by omega
    have hgd : ∀ (l : List Int32) (h : i < l.length), l.getD i 0 = l[i] := fun l h => by simp [h]
    unfold f_J7_indexOfChar_7 fw_st
    rw [if_neg (nI_ge (by omega) (by omega)), x_nn, show fw_RO + (9 + s) - (fw_RO + 9) = s by omega, if_pos ⟨⟨by omega, by omega⟩, nI_in (by omega) (by omega)⟩, nI_clamp (by omega), List.drop_eq_getElem_cons hil, hgd _ hil]
    show (if _ then _ else _) = some (if _ then _ else _, L, 0, 0)
    by_cases h : (fw_sb.getD s [])[i] = x4
    · rw [if_pos h, if_pos h]
    · rw [if_neg h, if_neg h, nI_add, ih (i + 1) n (by omega) (by omega)]
theorem x_io {s y : Nat} (hs : s < 4) (hy : y < 256) (L : LH) : f_J6_indexOf (fw_RO + (5 + s)) (nI y) L = some (x_sr (fw_sb.getD s []) (nI y).toInt8.toInt32 0, L, 0, 0) := by
  have hb : 1 ≤ fw_sl.getD s 0 ∧ fw_sl.getD s 0 ≤ 9 := (by decide : ∀ s, s < 4 → 1 ≤ fw_sl.getD s 0 ∧ fw_sl.getD s 0 ≤ 9) s hs
  have h1 : ∀ {β : Type} (k : Rs β), fw_iss (fw_RO + (5 + s)) k = k := fun k => if_pos ⟨by omega, by omega⟩
  have h2 : ∀ {β : Type} (k : Int32 → Rs β), fw_sc (fw_RO + (5 + s)) k = k (nI 0) := fun k => if_pos ⟨by omega, by omega⟩
  have h3 : ∀ {β : Type} (k : Option Nat → Rs β), fw_sv (fw_RO + (5 + s)) k = k (some (fw_RO + (9 + s))) := fun k => by
    unfold fw_sv
    rw [if_pos ⟨by omega, by omega⟩]
    exact congrArg k (by rw [show fw_RO + (5 + s) + 4 = fw_RO + (9 + s) by omega])
  have h4 : ∀ {β : Type} (k : Int32 → Rs β), fw_sn (fw_RO + (9 + s)) k = k (nI (fw_sl.getD s 0)) := fun k => by
    unfold fw_sn
    rw [if_pos ⟨by omega, by omega⟩, show fw_RO + (9 + s) - (fw_RO + 9) = s by omega]
  have e1 : f_J6_isLatin1 (fw_RO + (5 + s)) L = some (nI 1, L, 0, 0) := by
    unfold f_J6_isLatin1
    rw [if_neg (by decide), h2, if_pos nI_0]
  have e2 : f_J6_length (fw_RO + (5 + s)) L = some (nI (fw_sl.getD s 0), L, 0, 0) := by
    unfold f_J6_length f_J6_coder
    rw [h3, x_nn, h4, h1, if_neg (by decide), h2, x_cl]
    rw [pk_shrN (by omega) _ 0 (by decide), Nat.pow_zero, Nat.div_one]
  have e3 : f_J7_canEncode (nI y) L = some (nI 1, L, 0, 0) := by
    unfold f_J7_canEncode
    rw [if_neg (nI_pos (by omega)), i_lt (by decide) (by omega), if_neg (by omega)]
  have e4 : f_J7_indexOf (some (fw_RO + (9 + s))) (nI y) (nI 0) (nI (fw_sl.getD s 0)) L = some (x_sr (fw_sb.getD s []) (nI y).toInt8.toInt32 0, L, 0, 0) := by
    unfold f_J7_indexOf f_J7_indexOfChar
    rw [e3, x_cl, if_neg (by decide), x_nn, h4, x_max (by decide) (by decide), x_min (by omega) (by omega), Nat.min_self, Nat.max_self, i_lt (by decide) (by omega), if_pos (by omega), x_ioc hs _ L (fw_sl.getD s 0) 0 fw_fuel (by omega) (by unfold fw_fuel; omega), x_cl, List.drop_zero]
  unfold f_J6_indexOf f_J6_indexOf_2
  rw [h1, h1, e1, x_cl, if_neg (by decide), h3, h1, e2, x_cl, e4, x_cl, x_cl]
theorem x_io0 {y : Nat} (hy : y < 256) (L : LH) : f_J6_indexOf (fw_RO + 5) (nI y) L = some (if c_so y < 3 then nI (c_so y) else -nI 1, L, 0, 0) := by
  rw [show fw_RO + 5 = fw_RO + (5 + 0) from rfl, x_io (by decide) hy]
  show some ((if nI 104 = _ then nI 0 else if nI 108 = _ then nI 1 else if nI 97 = _ then nI 2 else -nI 1), L, 0, 0) = _
  unfold c_so
  simp only [x_byte hy (show 104 < 128 by decide), x_byte hy (show 108 < 128 by decide), x_byte hy (show 97 < 128 by decide)]
  by_cases h1 : y = 104
  · simp [h1]
  · by_cases h2 : y = 108
    · simp [h2]
    · by_cases h3 : y = 97
      · simp [h3]
      · simp [h1, h2, h3]
theorem x_io1 {y : Nat} (hy : y < 256) (L : LH) : f_J6_indexOf (fw_RO + 6) (nI y) L = some (if c_fi y = true then nI (y - 49) else -nI 1, L, 0, 0) := by
  rw [show fw_RO + 6 = fw_RO + (5 + 1) from rfl, x_io (by decide) hy]
  show some ((if nI 49 = _ then nI 0 else if nI 50 = _ then nI 1 else if nI 51 = _ then nI 2 else if nI 52 = _ then nI 3 else if nI 53 = _ then nI 4 else if nI 54 = _ then nI 5 else if nI 55 = _ then nI 6 else if nI 56 = _ then nI 7 else if nI 57 = _ then nI 8 else -nI 1), L, 0, 0) = _
  unfold c_fi
  simp only [x_byte hy (show 49 < 128 by decide), x_byte hy (show 50 < 128 by decide), x_byte hy (show 51 < 128 by decide), x_byte hy (show 52 < 128 by decide), x_byte hy (show 53 < 128 by decide), x_byte hy (show 54 < 128 by decide), x_byte hy (show 55 < 128 by decide), x_byte hy (show 56 < 128 by decide), x_byte hy (show 57 < 128 by decide), decide_eq_true_eq]
  by_cases h : 49 ≤ y ∧ y ≤ 57
  · rw [if_pos h]
    rcases (show y = 49 ∨ y = 50 ∨ y = 51 ∨ y = 52 ∨ y = 53 ∨ y = 54 ∨ y = 55 ∨ y = 56 ∨ y = 57 by omega) with q | q | q | q | q | q | q | q | q <;> subst q <;> simp
  · rw [if_neg h, if_neg (by omega), if_neg (by omega), if_neg (by omega), if_neg (by omega), if_neg (by omega), if_neg (by omega), if_neg (by omega), if_neg (by omega), if_neg (by omega)]
theorem x_io2 {y : Nat} (hy : y < 256) (L : LH) : f_J6_indexOf (fw_RO + 7) (nI y) L = some (if y = 59 then nI 0 else -nI 1, L, 0, 0) := by
  rw [show fw_RO + 7 = fw_RO + (5 + 2) from rfl, x_io (by decide) hy]
  show some ((if nI 59 = _ then nI 0 else -nI 1), L, 0, 0) = _
  simp only [x_byte hy (show 59 < 128 by decide)]
theorem x_io3 {y : Nat} (hy : y < 256) (L : LH) : f_J6_indexOf (fw_RO + 8) (nI y) L = some (if c_co y < 3 then nI (c_co y) else -nI 1, L, 0, 0) := by
  rw [show fw_RO + 8 = fw_RO + (5 + 3) from rfl, x_io (by decide) hy]
  show some ((if nI 114 = _ then nI 0 else if nI 112 = _ then nI 1 else if nI 104 = _ then nI 2 else -nI 1), L, 0, 0) = _
  unfold c_co
  simp only [x_byte hy (show 114 < 128 by decide), x_byte hy (show 112 < 128 by decide), x_byte hy (show 104 < 128 by decide)]
  by_cases h1 : y = 114
  · simp [h1]
  · by_cases h2 : y = 112
    · simp [h2]
    · by_cases h3 : y = 104
      · simp [h3]
      · simp [h1, h2, h3]
