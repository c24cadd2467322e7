set_option maxRecDepth 100000
/-! The component's beats: what one puller gives. -/
theorem x_sl {a m : Nat} (ha : a < 2 ^ 30) (hm : m < 2 ^ 30) : fw_max (nI a - nI m) (nI 0) = nI (a - m) := by
  unfold fw_max
  by_cases h : m ≤ a
  · rw [pk_sub h, if_neg (by rw [nI_ltI (by omega) (by decide)]; omega)]
  · have h0 : nI a - nI m < nI 0 := by rw [nI_0]; exact pk_sneg hm (by omega)
    rw [if_pos h0, show a - m = 0 by omega]
theorem x_min {a b : Nat} (ha : a < 2 ^ 31) (hb : b < 2 ^ 31) : fw_min (nI a) (nI b) = nI (min a b) := by
  unfold fw_min
  rw [i_lt hb ha]
  by_cases h : b < a
  · rw [if_pos h, Nat.min_eq_right (by omega)]
  · rw [if_neg h, Nat.min_eq_left (by omega)]
theorem x_max {a b : Nat} (ha : a < 2 ^ 31) (hb : b < 2 ^ 31) : fw_max (nI a) (nI b) = nI (max a b) := by
  unfold fw_max
  rw [i_lt ha hb]
  by_cases h : a < b
  · rw [if_pos h, Nat.max_eq_right (by omega)]
  · rw [if_neg h, Nat.max_eq_left (by omega)]
abbrev x_so (s : Nat) : Nat := fw_RO + (1 + s)
theorem x_sd {α : Type} {s : Nat} (hs : s ≤ 2) (a b c : Rs α) : fw_sd (x_so s) a b c = if s = 0 then a else if s = 1 then b else c := by
  unfold fw_sd
  rcases (show s = 0 ∨ s = 1 ∨ s = 2 by omega) with h | h | h <;> subst h <;> simp
theorem x_soG {s : Nat} (hs : s ≤ 2) (L : LH) : fw_sd (x_so s) (f_X10_gains (x_so s) L) (f_X9_gains (x_so s) L) (f_X10_gains (x_so s) L) = some (nI (if s = 1 then 2 else 1), L, 0, 0) := by
  rw [x_sd hs]
  rcases (show s = 0 ∨ s = 1 ∨ s = 2 by omega) with h | h | h <;> subst h
  · rfl
  · show fw_isR 2 (x_so 1) (fw_cl (some (nI 1, L, 0, 0)) fun v2 L1 => some (nI 2 * v2, L1, 0, 0)) = _
    rw [x_cl, pk_mul]
    exact if_pos rfl
  · rfl
theorem x_soH {s : Nat} (hs : s ≤ 2) (L : LH) : fw_sd (x_so s) (f_X10_heaves (x_so s) L) (f_X9_heaves (x_so s) L) (f_X8_heaves (x_so s) L) = some (nI (if s = 0 then 1 else 2), L, 0, 0) := by
  rw [x_sd hs]
  rcases (show s = 0 ∨ s = 1 ∨ s = 2 by omega) with h | h | h <;> subst h
  · rfl
  · show fw_isR 2 (x_so 1) (fw_cl (some (nI 1, L, 0, 0)) fun v2 L1 => some (v2 + nI 1, L1, 0, 0)) = _
    rw [x_cl, nI_add]
    exact if_pos rfl
  · show fw_isR 3 (x_so 2) (fw_cl (some (nI 1, L, 0, 0)) fun v2 L1 => some (v2 + nI 1, L1, 0, 0)) = _
    rw [x_cl, nI_add]
    exact if_pos rfl
theorem x_soA {s : Nat} (hs : s ≤ 2) (L : LH) : fw_sd (x_so s) (f_X10_isAnchor (x_so s) L) (f_X10_isAnchor (x_so s) L) (f_X8_isAnchor (x_so s) L) = some (nI (if s = 2 then 1 else 0), L, 0, 0) := by
  rw [x_sd hs]
  rcases (show s = 0 ∨ s = 1 ∨ s = 2 by omega) with h | h | h <;> subst h <;> rfl
theorem x_soN {s : Nat} (hs : s ≤ 2) (L : LH) : fw_sd (x_so s) (f_X10_number (x_so s) L) (f_X9_number (x_so s) L) (f_X8_number (x_so s) L) = some (nI s, L, 0, 0) := by
  rw [x_sd hs]
  rcases (show s = 0 ∨ s = 1 ∨ s = 2 by omega) with h | h | h <;> subst h
  · rfl
  · show fw_isR 2 (x_so 1) (fw_cl (some (nI 0, L, 0, 0)) fun v2 L1 => some (v2 + nI 1, L1, 0, 0)) = _
    rw [x_cl, nI_add]
    exact if_pos rfl
  · show fw_isR 3 (x_so 2) (fw_cl (some (nI 0, L, 0, 0)) fun v2 L1 => some (v2 + nI 2, L1, 0, 0)) = _
    rw [x_cl, nI_add]
    exact if_pos rfl
theorem x_soS {s a m : Nat} (hs : s ≤ 2) (ha : a < 2 ^ 30) (hm : m < 2 ^ 30) (L : LH) : fw_sd (x_so s) (f_X10_slides (x_so s) (nI a) (nI m) L) (f_X10_slides (x_so s) (nI a) (nI m) L) (f_X8_slides (x_so s) (nI a) (nI m) L) = some (nI (a - (if s = 2 then 0 else m)), L, 0, 0) := by
  rw [x_sd hs]
  rcases (show s = 0 ∨ s = 1 ∨ s = 2 by omega) with h | h | h <;> subst h
  · show some (fw_max (nI a - nI m) (nI 0), L, 0, 0) = _
    rw [x_sl ha hm]; rfl
  · show some (fw_max (nI a - nI m) (nI 0), L, 0, 0) = _
    rw [x_sl ha hm]; rfl
  · show fw_isR 3 (x_so 2) (fw_cl (some (fw_max (nI a - nI 0) (nI 0), L, 0, 0)) fun v2 L1 => some (v2, L1, 0, 0)) = _
    rw [x_cl, x_sl ha (by decide)]
    exact if_pos rfl
section Xp
variable {L : LH} {I : MI} {p : Nat}
theorem x_pR (h : lh_k L p = 6) {β : Type} {s : Nat} {k : Option Nat → Rs β} : fw_gR 6 (lh_wI L I) p s k = k (lh_R L p s) := if_pos h
theorem x_pg (h : lh_k L p = 6) {β : Type} {s : Nat} {k : Int32 → Rs β} : fw_gI 6 (lh_wI L I) p s k = k (I p s) := if_pos h
/-- puller p, of sort s, weight w, wind wi, at k -/
def x_Pu (L : LH) (I : MI) (p s w wi : Nat) : Prop := 113 ≤ p ∧ lh_k L p = 6 ∧ lh_R L p 0 = some (x_so s) ∧ I p 1 = nI w ∧ I p 2 = nI wi
theorem x_rests {k s w wi br : Nat} (hS : x_Sh L) (hP : x_Pu L I p s w wi) (hs : s ≤ 2) (hk : k < 16) (hbr : I 17 k = nI br) (hb : br ≤ 9) (hb2 : wi ≤ 9) :
    f_X0_rests 0 (nI k) (some p) (lh_wI L I) = if nI k = I 94 (k / 8) ∧ s = 2 then some (nI w, lh_wI L I, 0, 0) else some (nI 0, lh_wI L (fw_u2 I 17 k (nI (min (br + (if s = 1 then 2 else 1)) wi))), 0, 0) := by
  obtain ⟨hp, hp6, hpR, hw, hwi⟩ := hP
  have h28 : f_X0_rests_28 0 (nI k) (some p) (lh_wI L I) = some (nI 0, lh_wI L (fw_u2 I 17 k (nI (min (br + (if s = 1 then 2 else 1)) wi))), 0, 0) := by
    unfold f_X0_rests_28
    rw [x_g10 hS, x_g10 hS, x_nn, x_rd17 hS hk, x_nn, x_pR hp6, hpR, x_nn, x_soG hs, x_cl, x_pg hp6, x_nn, x_wr17 hS hk, hbr, hwi, nI_add, x_min (by split <;> omega) (by omega)]
  unfold f_X0_rests
  rw [x_g15 hS, x_nn, pk_div (by omega) (by decide) (by decide), x_rd94 hS (by omega)]
  by_cases h : nI k = I 94 (k / 8)
  · rw [if_pos h, x_nn, x_pR hp6, hpR, x_nn, x_soA hs, x_cl]
    by_cases h2 : s = 2
    · rw [if_pos h2, if_neg (by decide), x_pg hp6, hw, if_pos ⟨h, h2⟩]
    · rw [if_neg h2, if_pos nI_0, h28, if_neg (show ¬ (nI k = I 94 (k / 8) ∧ s = 2) from fun q => h2 q.2)]
  · rw [if_neg h, if_neg (fun q => h q.1), h28]
theorem x_pulls {k s w wi br call : Nat} (hS : x_Sh L) (hP : x_Pu L I p s w wi) (hs : s ≤ 2) (hk : k < 16) (hbr : I 17 k = nI br) (hb : br ≤ 9) (hw9 : w ≤ 9) (hc : call = 1 ∨ call = 2) :
    f_X0_pulls 0 (nI k) (some p) (nI call) (lh_wI L I) = if call = 2 ∧ (if s = 0 then 1 else 2) ≤ br then some (nI (2 * w + (if nI k = I 94 (k / 8) ∧ s = 2 then 2 else 0)), lh_wI L (fw_u2 I 17 k (nI (br - (if s = 0 then 1 else 2)))), 0, 0) else if br = 0 then some (nI 0, lh_wI L I, 0, 0) else some (nI (w + (if nI k = I 94 (k / 8) ∧ s = 2 then 2 else 0)), lh_wI L (fw_u2 I 17 k (nI (br - 1))), 0, 0) := by
  obtain ⟨hp, hp6, hpR, hw, hwi⟩ := hP
  have h94 : ∀ (J : MI) (x : Nat), J p 1 = nI w → J 94 = I 94 → f_X0_pulls_94 0 (nI k) (some p) (nI x) (lh_wI L J) = some (nI (x * w + (if nI k = I 94 (k / 8) ∧ s = 2 then 2 else 0)), lh_wI L J, 0, 0) := by
    intro J x hJ hJ2
    unfold f_X0_pulls_94
    rw [x_nn, x_pg hp6, x_g15 hS, x_nn, pk_div (by omega) (by decide) (by decide), x_rd94 hS (by omega), hJ, hJ2]
    by_cases h : nI k = I 94 (k / 8)
    · rw [if_pos h, x_pR hp6, hpR, x_nn, x_soA hs, x_cl, pk_mul]
      by_cases h2 : s = 2
      · rw [if_pos h2, if_neg (by decide), nI_add, if_pos ⟨h, h2⟩]
      · rw [if_neg h2, if_pos nI_0, nI_add, if_neg (fun q => h2 q.2)]
    · rw [if_neg h, pk_mul, nI_add, if_neg (fun q => h q.1)]
  have h71 : ∀ x4 f : Nat, x4 ≤ br → f ≤ 1 → f_X0_pulls_71 0 (nI k) (some p) (nI x4) (nI f) (lh_wI L I) = some (nI ((1 + f) * w + (if nI k = I 94 (k / 8) ∧ s = 2 then 2 else 0)), lh_wI L (fw_u2 I 17 k (nI (br - x4))), 0, 0) := by
    intro x4 f hx hf
    unfold f_X0_pulls_71
    have e1 : ∀ v, fw_u2 I 17 k v p 1 = nI w := fun v => by rw [fw_u2_at, if_neg (by omega)]; exact hw
    have e2 : ∀ v, fw_u2 I 17 k v 94 = I 94 := fun v => fw_u2_ne1 _ _ _ (by decide)
    rw [x_g10 hS, x_nn, x_rd17 hS hk, x_wr17 hS hk, hbr, pk_sub hx]
    rcases (show f = 0 ∨ f = 1 by omega) with h | h <;> subst h
    · rw [if_pos nI_0, h94 _ _ (e1 _) (e2 _)]
    · rw [if_neg (by decide), h94 _ _ (e1 _) (e2 _)]
  have h32 : ∀ x : Nat, (call = 1 → x = 1) → (call = 2 → x = if (if s = 0 then 1 else 2) ≤ br then (if s = 0 then 1 else 2) else 1) → f_X0_pulls_32 0 (nI k) (some p) (nI call) (nI x) (lh_wI L I) = if br = 0 then some (nI 0, lh_wI L I, 0, 0) else if call = 2 ∧ (if s = 0 then 1 else 2) ≤ br then some (nI (2 * w + (if nI k = I 94 (k / 8) ∧ s = 2 then 2 else 0)), lh_wI L (fw_u2 I 17 k (nI (br - (if s = 0 then 1 else 2)))), 0, 0) else some (nI (w + (if nI k = I 94 (k / 8) ∧ s = 2 then 2 else 0)), lh_wI L (fw_u2 I 17 k (nI (br - 1))), 0, 0) := by
    intro x h1 h2
    unfold f_X0_pulls_32 f_X0_pulls_70
    rw [x_g10 hS, x_nn, x_rd17 hS hk, hbr, i_z (by omega)]
    by_cases h0 : br = 0
    · rw [if_pos h0, if_pos h0]
    · rw [if_neg h0, if_neg h0]
      rcases hc with h | h
      · subst h
        rw [if_pos rfl, h1 rfl, h71 1 0 (by omega) (by omega), if_neg (show ¬ (1 = 2 ∧ (if s = 0 then 1 else 2) ≤ br) from fun q => absurd q.1 (by decide))]
        simp
      · subst h
        rw [if_neg (by decide), x_g10 hS, x_nn, x_rd17 hS hk, x_nn, x_pR hp6, hpR, x_nn, x_soH hs, x_cl, hbr, i_lt (by omega) (by split <;> omega), h2 rfl]
        by_cases h3 : (if s = 0 then 1 else 2) ≤ br
        · rw [if_neg (by omega), if_pos h3, h71 _ 1 h3 (by omega), if_pos (show 2 = 2 ∧ (if s = 0 then 1 else 2) ≤ br from ⟨rfl, h3⟩)]
        · rw [if_pos (by omega), if_neg h3, h71 1 0 (by omega) (by omega), if_neg (show ¬ (2 = 2 ∧ (if s = 0 then 1 else 2) ≤ br) from fun q => h3 q.2)]
          simp
  have fin : ∀ {A B D : Rs Int32} {c : Prop} {h : Decidable c}, (c → br ≠ 0) → (if br = 0 then A else if c then B else D) = if c then B else if br = 0 then A else D := by
    intro A B D c h hh
    by_cases hb0 : br = 0
    · rw [if_pos hb0, if_neg (fun q => hh q hb0), if_pos hb0]
    · rw [if_neg hb0, if_neg hb0]
  have hh : (call = 2 ∧ (if s = 0 then 1 else 2) ≤ br) → br ≠ 0 := fun q => by have := q.2; split at this <;> omega
  unfold f_X0_pulls f_X0_pulls_21
  rcases hc with h | h
  · subst h
    rw [if_pos rfl, h32 1 (fun _ => rfl) (fun q => absurd q (by decide)), fin hh]
  · subst h
    rw [if_neg (by decide), x_g10 hS, x_nn, x_rd17 hS hk, x_nn, x_pR hp6, hpR, x_nn, x_soH hs, x_cl, hbr, i_le (by split <;> omega) (by omega)]
    by_cases h3 : (if s = 0 then 1 else 2) ≤ br
    · rw [if_pos h3, x_pR hp6, hpR, x_nn, x_soH hs, x_cl, h32 _ (fun q => absurd q (by decide)) (fun _ => (if_pos h3).symm), fin hh]
    · rw [if_neg h3, h32 1 (fun q => absurd q (by decide)) (fun _ => (if_neg h3).symm), fin hh]
end Xp
