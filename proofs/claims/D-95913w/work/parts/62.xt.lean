set_option maxRecDepth 100000
/-! The component's beats: events, one puller, a team. -/
section Xa
variable {L : LH} {I : MI}
theorem x_ra {a n i : Nat} {β : Type} {k : Int32 → Rs β} (hk : lh_k L a = 100) (hn : lh_n L a = n) (hi : i < n) (hb : n ≤ 1000) : fw_rd 100 (lh_wI L I) a (nI i) k = k (I a i) := by
  unfold fw_rd
  have e : lh_n (lh_wI L I) a = n := hn
  rw [if_pos ⟨hk, by rw [e]; exact nI_in hi (by omega)⟩, nI_clamp (by omega)]
  rfl
theorem x_ck {a c : Nat} {β : Type} {k : Rs β} (hk : lh_k L a = c) : fw_ck c (lh_wI L I) (some a) k = k := if_pos hk
theorem x_isIn (x : Int32) {k : Nat} (hk : k < 32) (L : LH) : f_X0_isIn x (nI k) L = some (nI (if bt x k = true then 1 else 0), L, 0, 0) := by
  unfold f_X0_isIn
  by_cases h : bt x k = true
  · rw [if_pos ((bt_in x hk).mpr h), if_pos h]
  · rw [if_neg (fun q => h ((bt_in x hk).mp q)), if_neg h]
theorem x_kT (hS : x_Sh L) {t : Nat} (ht : t < 2) : lh_k L (2 + 3 * t) = 2 ∧ lh_k L (4 + 3 * t) = 5 ∧ lh_k L (9 + 3 * t) = 3 := by
  have h := hS.1
  rcases (show t = 0 ∨ t = 1 by omega) with q | q <;> subst q
  · exact ⟨(h 2 (by decide)).1, (h 4 (by decide)).1, (h 9 (by decide)).1⟩
  · exact ⟨(h 5 (by decide)).1, (h 7 (by decide)).1, (h 12 (by decide)).1⟩
theorem x_gT (hS : x_Sh L) {t : Nat} (ht : t < 2) {β : Type} {k : Option Nat → Rs β} : fw_gR 2 (lh_wI L I) (2 + 3 * t) 5 k = k (some (4 + 3 * t)) := by
  rcases (show t = 0 ∨ t = 1 by omega) with q | q <;> subst q
  · exact x_gt2 hS
  · exact x_gt5 hS
theorem x_isT (hS : x_Sh L) {t : Nat} (ht : t < 2) {β : Type} {k : Rs β} : fw_is 2 (lh_wI L I) (2 + 3 * t) k = k := if_pos (x_kT hS ht).1
theorem x_isL (hS : x_Sh L) {t : Nat} (ht : t < 2) {β : Type} {k : Rs β} : fw_is 5 (lh_wI L I) (4 + 3 * t) k = k := if_pos (x_kT hS ht).2.1
theorem x_is16 (hS : x_Sh L) {β : Type} {k : Rs β} : fw_is 5 (lh_wI L I) 16 k = k := x_is hS (by decide) rfl
theorem x_sz16 (hS : x_Sh L) : f_J2_size 16 (lh_wI L I) = some (I 16 2, lh_wI L I, 0, 0) := x_sz (hS.1 16 (by decide)).1
end Xa
abbrev x_v : Nat → Nat → Prop := fun j x => (j = 0 ∧ 6 ≤ x ∧ x ≤ 9) ∨ j = 17 ∨ j = 18 ∨ (20 ≤ j ∧ j < 44) ∨ (45 ≤ j ∧ j < 69) ∨ (70 ≤ j ∧ j < 95)
def x_PU (C : CF) (L : LH) (I : MI) (t : Nat) : Prop := I (2 + 3 * t) 3 = nI 1 ∧ I (4 + 3 * t) 2 = nI (C 0 t) ∧ ∀ i, i < C 0 t → ∃ p, x_at L (4 + 3 * t) i p ∧ x_Pu L I p (C 1 (8 * t + i)) (C 2 (8 * t + i)) (C 3 (8 * t + i))
def x_Ea (C : CF) (L : LH) (I : MI) (e a : Nat) : Prop := x_at L 16 e a ∧ 113 ≤ a ∧ lh_k L a = 100 ∧ lh_n L a = 3 ∧ I a 0 = nI (C 7 e) ∧ I a 1 = nI (C 8 e) ∧ I a 2 = nI (C 9 e)
def x_EV (C : CF) (L : LH) (I : MI) : Prop := I 16 2 = nI (C 6 0) ∧ ∀ e, e < C 6 0 → (bt (I 0 16) e = true ↔ C 10 e ≠ 0) ∧ ∃ a, x_Ea C L I e a
/-- the heap holds the configuration, both teams have been read -/
def x_XF (C : CF) (L : LH) (I : MI) : Prop := x_Sh L ∧ (∀ t, t < 2 → x_PU C L I t) ∧ x_EV C L I ∧ (∀ k, k < 16 → (nI k = I 0 17 ↔ C 12 0 = k))
theorem x_Pu.f {L : LH} {I I' : MI} {p s w wi : Nat} (h : x_Pu L I p s w wi) (e : ∀ x, I' p x = I p x) : x_Pu L I' p s w wi := by
  obtain ⟨h1, h2, h3, h4, h5⟩ := h
  exact ⟨h1, h2, h3, (e 1).trans h4, (e 2).trans h5⟩
theorem x_PU.f {C : CF} {L : LH} {I I' : MI} {t : Nat} (h : x_PU C L I t) (e1 : I' (2 + 3 * t) 3 = I (2 + 3 * t) 3) (e2 : I' (4 + 3 * t) 2 = I (4 + 3 * t) 2) (e3 : ∀ j x, 113 ≤ j → I' j x = I j x) : x_PU C L I' t :=
  ⟨e1.trans h.1, e2.trans h.2.1, fun i hi => by
    obtain ⟨p, h1, h2⟩ := h.2.2 i hi
    exact ⟨p, h1, h2.f (fun x => e3 p x h2.1)⟩⟩
theorem x_EV.f {C : CF} {L : LH} {I I' : MI} (h : x_EV C L I) (e1 : I' 16 2 = I 16 2) (e2 : I' 0 16 = I 0 16) (e3 : ∀ j x, 113 ≤ j → I' j x = I j x) : x_EV C L I' :=
  ⟨e1.trans h.1, fun e he => by
    obtain ⟨h1, a, h2, h3, h4, h5, h6, h7, h8⟩ := h.2 e he
    rw [e2]
    exact ⟨h1, a, h2, h3, h4, h5, (e3 a 0 h3).trans h6, (e3 a 1 h3).trans h7, (e3 a 2 h3).trans h8⟩⟩
theorem x_XF.f {C : CF} {L : LH} {I I' : MI} (h : x_XF C L I) (e : m_f x_v I I') : x_XF C L I' := by
  refine ⟨h.1, fun t ht => (h.2.1 t ht).f (e _ _ (by omega)) (e _ _ (by omega)) (fun j x hj => e _ _ (by omega)), h.2.2.1.f (e _ _ (by omega)) (e _ _ (by omega)) (fun j x hj => e _ _ (by omega)), fun k hk => ?_⟩
  rw [e 0 17 (by omega)]
  exact h.2.2.2 k hk
theorem c_any_true {p : Nat → Bool} {e : Nat} (hp : p e = true) : ∀ {n : Nat}, e < n → c_any p n = true
  | n + 1, h => by
    unfold c_any
    by_cases q : e = n
    · subst q; rw [hp, Bool.or_true]
    · rw [c_any_true hp (n := n) (by omega), Bool.true_or]
theorem x_isTold_3 {C : CF} {L : LH} {I : MI} (hC : c_B C) (hS : x_Sh L) (hE : x_EV C L I) {kd b k : Nat} (hkd : kd ≤ 2) (hb : b < 24) (hk : k < 16) : ∀ (m e n : Nat), e + m = C 6 0 → m < n → c_any (fun e => c_ev C kd b e && (decide (0 < kd) || C 9 e == k)) e = false →
    f_X0_isTold_3 n 0 (nI kd) (nI b) (nI k) (nI e) (lh_wI L I) = some (nI (if c_any (fun e => c_ev C kd b e && (decide (0 < kd) || C 9 e == k)) (C 6 0) = true then 1 else 0), lh_wI L I, 0, 0) := by
  intro m
  have h8 := hC.2.2.2.2.1
  induction m with
  | zero =>
    intro e n he hn hno
    obtain ⟨n, rfl⟩ : ∃ q, n = q + 1 := ⟨n - 1, by omega⟩
    obtain rfl : e = C 6 0 := by omega
    unfold f_X0_isTold_3
    rw [x_g5 hS, x_nn, x_is16 hS, x_sz16 hS, x_cl, hE.1, if_pos (nI_le (Nat.le_refl _) (by omega)), hno]
    rfl
  | succ m ih =>
    intro e n he hn hno
    obtain ⟨n, rfl⟩ : ∃ q, n = q + 1 := ⟨n - 1, by omega⟩
    obtain ⟨hg, a, ha, ha1, ha2, ha3, ha4, ha5, ha6⟩ := hE.2 e (by omega)
    have hB := hC.2.2.2.2.2 e
    unfold f_X0_isTold_3
    rw [x_g5 hS, x_nn, x_is16 hS, x_sz16 hS, x_cl, hE.1, if_neg (nI_ge (by omega) (by omega)), x_g5 hS, x_nn, x_is16 hS, x_get (hS.1 16 (by decide)).1 hE.1 (by omega) (by omega) ha, x_cl, x_ck ha2, x_nn, x_ra ha2 ha3 (by decide) (by decide), ha4, i_eq (by omega) (by omega)]
    have go : (c_ev C kd b e && (decide (0 < kd) || C 9 e == k)) = false → f_X0_isTold_71 (f_X0_isTold_3 n) 0 (nI kd) (nI b) (nI k) (nI e) (lh_wI L I) = some (nI (if c_any (fun e => c_ev C kd b e && (decide (0 < kd) || C 9 e == k)) (C 6 0) = true then 1 else 0), lh_wI L I, 0, 0) := by
      intro h
      unfold f_X0_isTold_71
      rw [nI_add]
      refine ih (e + 1) n (by omega) (by omega) ?_
      unfold c_any
      rw [hno, h]
      rfl
    have yes : (c_ev C kd b e && (decide (0 < kd) || C 9 e == k)) = true → some (nI 1, lh_wI L I, 0, 0) = some (nI (if c_any (fun e => c_ev C kd b e && (decide (0 < kd) || C 9 e == k)) (C 6 0) = true then 1 else 0), lh_wI L I, 0, 0) := by
      intro h
      rw [if_pos (c_any_true (p := fun e => c_ev C kd b e && (decide (0 < kd) || C 9 e == k)) h (by omega))]
    by_cases h7 : C 7 e = kd
    · rw [if_pos h7, x_ra ha2 ha3 (by decide) (by decide), ha5, i_eq (by omega) (by omega)]
      by_cases hb8 : C 8 e = b
      · rw [if_pos hb8, x_gI hS, x_isIn _ (by omega), x_cl]
        by_cases hgo : C 10 e = 0
        · rw [if_neg (fun q => hg.mp q hgo), if_pos nI_0, i_lt0 (by omega)]
          have hev : c_ev C kd b e = true := by unfold c_ev; simp [h7, hb8, hgo]
          by_cases h0 : 0 < kd
          · rw [if_pos h0]
            exact yes (by rw [hev]; simp [h0])
          · rw [if_neg h0, x_ra ha2 ha3 (by decide) (by decide), ha6, i_eq (by omega) (by omega)]
            by_cases h9 : C 9 e = k
            · rw [if_pos h9]
              exact yes (by rw [hev]; simp [h9])
            · rw [if_neg h9]
              exact go (by rw [hev]; simp [h0, h9])
        · rw [if_pos (hg.mpr hgo), if_neg (by decide)]
          exact go (by unfold c_ev; simp [hgo])
      · rw [if_neg hb8]
        exact go (by unfold c_ev; simp [hb8])
    · rw [if_neg h7]
      exact go (by unfold c_ev; simp [h7])
theorem x_slip {C : CF} {L : LH} {I : MI} (hC : c_B C) (hS : x_Sh L) (hE : x_EV C L I) {b k : Nat} (hb : b < 24) (hk : k < 16) : f_X0_isTold 0 (nI 0) (nI b) (nI k) (lh_wI L I) = some (nI (if c_sl C b k = true then 1 else 0), lh_wI L I, 0, 0) := by
  unfold f_X0_isTold
  rw [x_isTold_3 hC hS hE (by decide) hb hk (C 6 0) 0 fw_fuel (by omega) (by have := hC.2.2.2.2.1; unfold fw_fuel; omega) rfl]
  have e : (fun e => c_ev C 0 b e && (decide (0 < 0) || C 9 e == k)) = fun e => c_ev C 0 b e && C 9 e == k := by
    funext e; simp
  rw [e]
  rfl
theorem x_dog {C : CF} {L : LH} {I : MI} (hC : c_B C) (hS : x_Sh L) (hE : x_EV C L I) {b : Nat} (hb : b < 24) : f_X0_isTold 0 (nI 2) (nI b) (nI 0) (lh_wI L I) = some (nI (if c_dg C b = true then 1 else 0), lh_wI L I, 0, 0) := by
  unfold f_X0_isTold
  rw [x_isTold_3 hC hS hE (by decide) hb (by decide) (C 6 0) 0 fw_fuel (by omega) (by have := hC.2.2.2.2.1; unfold fw_fuel; omega) rfl]
  have e : (fun e => c_ev C 2 b e && (decide (0 < 2) || C 9 e == 0)) = fun e => c_ev C 2 b e := by
    funext e; simp
  rw [e]
  rfl
theorem fw_u2_tw {α : Type} (f : Nat → Nat → α) (j x : Nat) (u v : α) : fw_u2 (fw_u2 f j x u) j x v = fw_u2 f j x v := by
  funext a b
  unfold fw_u2
  split <;> rfl
theorem x_rains_2 {C : CF} {L : LH} (hC : c_B C) (hS : x_Sh L) {b w : Nat} (hb : b < 24) (hw : w ≤ 9) : ∀ (m e n : Nat), e + m = C 6 0 → m < n → ∀ I : MI, x_EV C L I → I 0 7 = nI (c_rn C b w e) →
    f_X0_rains_2 n 0 (nI b) (nI e) (lh_wI L I) = some ((), lh_wI L (fw_u2 I 0 7 (nI (c_rn C b w (C 6 0)))), 0, 0) := by
  intro m
  have h8 := hC.2.2.2.2.1
  induction m with
  | zero =>
    intro e n he hn I hE h7
    obtain ⟨n, rfl⟩ : ∃ q, n = q + 1 := ⟨n - 1, by omega⟩
    obtain rfl : e = C 6 0 := by omega
    unfold f_X0_rains_2
    rw [x_g5 hS, x_nn, x_is16 hS, x_sz16 hS, x_cl, hE.1, if_pos (nI_le (Nat.le_refl _) (by omega)), fw_u2_id I h7]
  | succ m ih =>
    intro e n he hn I hE hw7
    obtain ⟨n, rfl⟩ : ∃ q, n = q + 1 := ⟨n - 1, by omega⟩
    obtain ⟨hg, a, ha, ha1, ha2, ha3, ha4, ha5, ha6⟩ := hE.2 e (by omega)
    have hB := hC.2.2.2.2.2 e
    have hr := c_rn_le (C := C) (b := b) hw e
    unfold f_X0_rains_2
    rw [x_g5 hS, x_nn, x_is16 hS, x_sz16 hS, x_cl, hE.1, if_neg (nI_ge (by omega) (by omega)), x_g5 hS, x_nn, x_is16 hS, x_get (hS.1 16 (by decide)).1 hE.1 (by omega) (by omega) ha, x_cl, x_ck ha2, x_nn, x_ra ha2 ha3 (by decide) (by decide), ha4, i_eq (by omega) (by omega)]
    have go : c_ev C 1 b e = false → f_X0_rains_65 (f_X0_rains_2 n) 0 (nI b) (nI e) (lh_wI L I) = some ((), lh_wI L (fw_u2 I 0 7 (nI (c_rn C b w (C 6 0)))), 0, 0) := by
      intro h
      unfold f_X0_rains_65
      rw [nI_add]
      refine ih (e + 1) n (by omega) (by omega) I hE ?_
      rw [hw7, show c_rn C b w (e + 1) = (if c_ev C 1 b e = true then min (c_rn C b w e + 1) 9 else c_rn C b w e) from rfl, h]
      rfl
    by_cases h7 : C 7 e = 1
    · rw [if_pos h7, x_ra ha2 ha3 (by decide) (by decide), ha5, i_eq (by omega) (by omega)]
      by_cases hb8 : C 8 e = b
      · rw [if_pos hb8, x_gI hS, x_isIn _ (by omega), x_cl]
        by_cases hgo : C 10 e = 0
        · have hev : c_ev C 1 b e = true := by unfold c_ev; simp [h7, hb8, hgo]
          rw [if_neg (fun q => hg.mp q hgo), if_pos nI_0, x_gI hS, x_pI hS, hw7, nI_add, x_min (by omega) (by decide)]
          unfold f_X0_rains_65
          rw [nI_add, ih (e + 1) n (by omega) (by omega) _ (hE.f (fw_u2_ne _ _ (by omega)) (fw_u2_ne _ _ (by omega)) (fun j x hj => fw_u2_ne _ _ (by omega))) (by rw [fw_u2_self]; show _ = nI (if c_ev C 1 b e = true then _ else _); rw [if_pos hev]), fw_u2_tw]
        · rw [if_pos (hg.mpr hgo), if_neg (by decide)]
          exact go (by unfold c_ev; simp [hgo])
      · rw [if_neg hb8]
        exact go (by unfold c_ev; simp [hb8])
    · rw [if_neg h7]
      exact go (by unfold c_ev; simp [h7])
theorem x_rains {C : CF} {L : LH} {I : MI} (hC : c_B C) (hS : x_Sh L) (hE : x_EV C L I) {b : Nat} (hb : b < 24) {S : CF} (hw : S 0 1 ≤ 9) (h7 : I 0 7 = nI (S 0 1)) : f_X0_rains 0 (nI b) (lh_wI L I) = some ((), lh_wI L (fw_u2 I 0 7 (nI (c_we C b S))), 0, 0) := by
  unfold f_X0_rains
  exact x_rains_2 hC hS hb hw (C 6 0) 0 fw_fuel (by omega) (by have := hC.2.2.2.2.1; unfold fw_fuel; omega) I hE h7
/-- who is last of a team -/
def x_LM (C : CF) (I : MI) : Prop := ∀ k, c_he C k → (nI k = I 94 (k / 8) ↔ C 11 (k / 8) = k)
theorem x_pullerBy {C : CF} {L : LH} {I : MI} (hC : c_B C) (hS : x_Sh L) {k p : Nat} (hk : c_th C k) (hs : I (4 + 3 * (k / 8)) 2 = nI (C 0 (k / 8))) (ha : x_at L (4 + 3 * (k / 8)) (k % 8) p) (h6 : lh_k L p = 6) : f_X0_pullerBy 0 (nI k) (lh_wI L I) = some (some p, lh_wI L I, 0, 0) := by
  have ht : k / 8 < 2 := by have := hk.1; omega
  have hn := hC.1 (k / 8)
  have hk1 := hk.1
  unfold f_X0_pullerBy
  rw [x_g1 hS, x_nn, pk_rem (by omega) (by decide) (by decide), pk_div (by omega) (by decide) (by decide), x_rqT hS ht, x_nn, x_gT hS ht, x_nn, x_isL hS ht, x_get (x_kT hS ht).2.1 hs hk.2 (by omega) ha, x_cl, x_ck h6]
theorem x_force {C : CF} {L : LH} {I : MI} (hC : c_B C) (hX : x_XF C L I) (hL : x_LM C I) {b k call br w d : Nat} (hk : c_th C k) (hb : b < 24) (hbr : I 17 k = nI br) (hb3 : br ≤ C 3 k) (hc : call ≤ 2) (hw : I 0 7 = nI w) (hw9 : w ≤ 9) (hd : I 18 k = nI d) :
    f_X0_force 0 (nI b) (nI k) (nI call) (lh_wI L I) = some (nI (c_fo C b k call w br).1, lh_wI L (fw_u2 (fw_u2 I 17 k (nI (c_fo C b k call w br).2)) 18 k (nI (d + (c_fo C b k call w br).1))), 0, 0) := by
  obtain ⟨hS, hT, hE, hO⟩ := hX
  have hk16 := hk.1
  obtain ⟨b1, b2, b3⟩ := hC.2.1 k
  obtain ⟨u1, u2, u3⟩ := hT (k / 8) (by omega)
  obtain ⟨p, hp, hP⟩ := u3 (k % 8) hk.2
  rw [show 8 * (k / 8) + k % 8 = k by omega] at hP
  have id : fw_u2 (fw_u2 I 17 k (nI br)) 18 k (nI (d + 0)) = I := by rw [fw_u2_id I hbr, Nat.add_zero, fw_u2_id I hd]
  unfold f_X0_force
  rw [x_gI hS]
  by_cases ho : C 12 0 = k
  · rw [if_pos ((hO k hk16).mpr ho)]
    unfold c_fo
    rw [if_neg (fun q => q.1.2 ho)]
    show _ = some (nI 0, lh_wI L (fw_u2 (fw_u2 I 17 k (nI br)) 18 k (nI (d + 0))), 0, 0)
    rw [id]
  · have hhe : c_he C k := ⟨hk, ho⟩
    rw [if_neg (fun q => ho ((hO k hk16).mp q)), x_is1 hS, x_slip hC hS hE hb hk16, x_cl]
    by_cases hsl : c_sl C b k = true
    · rw [if_pos hsl, if_neg (by decide)]
      unfold c_fo
      rw [if_neg (fun q => by rw [hsl] at q; cases q.2)]
      show _ = some (nI 0, lh_wI L (fw_u2 (fw_u2 I 17 k (nI br)) 18 k (nI (d + 0))), 0, 0)
      rw [id]
    · have hsl' : c_sl C b k = false := by simpa using hsl
      have hfo : c_fo C b k call w br = ((c_pw C k call br).1 - (if C 1 k = 2 then 0 else w), (c_pw C k call br).2) := if_pos ⟨hhe, hsl'⟩
      rw [hfo]
      have hle := (c_pw_le hC (call := call) hb3)
      have hlast := hL k hhe
      rw [if_neg hsl, if_pos nI_0, x_is1 hS, x_pullerBy hC hS hk u2 hp hP.2.1, x_cl, x_nn, x_pR hP.2.1, hP.2.2.1, i_z (by omega)]
      have h54 : ∀ (f v : Nat), f ≤ 20 → f_X0_force_54 0 (nI k) (nI f) (some (x_so (C 1 k))) (lh_wI L (fw_u2 I 17 k (nI v))) = some (nI (f - (if C 1 k = 2 then 0 else w)), lh_wI L (fw_u2 (fw_u2 I 17 k (nI v)) 18 k (nI (d + (f - (if C 1 k = 2 then 0 else w))))), 0, 0) := by
        intro f v hf
        unfold f_X0_force_54
        rw [x_gI hS, fw_u2_ne _ _ (by omega), hw, x_nn, x_soS b1 (by omega) (by omega), x_cl, x_g11 hS, x_nn, x_rd18 hS hk16, fw_u2_ne _ _ (by omega), hd, x_wr18 hS hk16, nI_add]
      by_cases hc0 : call = 0
      · rw [if_pos hc0, x_is1 hS, x_rests hS hP b1 hk16 hbr (by omega) b3]
        unfold c_pw
        rw [if_pos hc0]
        by_cases han : C 1 k = 2 ∧ C 11 (k / 8) = k
        · have e := h54 (C 2 k) br (by omega)
          rw [fw_u2_id I hbr] at e
          rw [if_pos ⟨hlast.mpr han.2, han.1⟩, x_cl, e, if_pos han]
          show _ = some (nI (C 2 k - _), lh_wI L (fw_u2 (fw_u2 I 17 k (nI br)) 18 k _), 0, 0)
          rw [fw_u2_id I hbr]
        · rw [if_neg (fun q => han ⟨q.2, hlast.mp q.1⟩), x_cl, h54 0 _ (by omega), if_neg han]
      · rw [if_neg hc0, x_is1 hS, x_pulls hS hP b1 hk16 hbr (by omega) b2 (by omega)]
        unfold c_pw c_ht
        rw [if_neg hc0]
        have ea : (if nI k = I 94 (k / 8) ∧ C 1 k = 2 then 2 else 0) = if c_an C k then 2 else 0 := by
          by_cases han : C 1 k = 2 ∧ C 11 (k / 8) = k
          · rw [if_pos ⟨hlast.mpr han.2, han.1⟩, if_pos han]
          · rw [if_neg (fun q => han ⟨q.2, hlast.mp q.1⟩), if_neg han]
        rw [ea]
        have la : (if c_an C k then 2 else 0) ≤ 2 := by split <;> omega
        by_cases h1 : call = 2 ∧ (if C 1 k = 0 then 1 else 2) ≤ br
        · rw [if_pos h1, x_cl, h54 _ _ (by omega), if_pos h1]
        · rw [if_neg h1, if_neg h1]
          by_cases h0 : br = 0
          · have e := h54 0 br (by omega)
            rw [fw_u2_id I hbr] at e
            rw [if_pos h0, x_cl, e, if_pos h0]
            show _ = some (nI (0 - _), lh_wI L (fw_u2 (fw_u2 I 17 k (nI 0)) 18 k _), 0, 0)
            rw [show fw_u2 I 17 k (nI 0) = I from fw_u2_id I (by rw [hbr, h0])]
          · rw [if_neg h0, x_cl, h54 _ _ (by omega), if_neg h0]
/-- a team that has been read -/
theorem x_many {C : CF} {L : LH} {I : MI} (hS : x_Sh L) {t : Nat} (ht : t < 2) (h : I (2 + 3 * t) 3 = nI 1) : f_X2_many (2 + 3 * t) (lh_wI L I) = some (I (4 + 3 * t) 2, lh_wI L I, 0, 0) := by
  have hk := (x_kT hS ht).1
  have hr : f_X1_read (2 + 3 * t) (lh_wI L I) = some (I (2 + 3 * t) 4, lh_wI L I, 0, 0) := by
    unfold f_X1_read f_X1_read_15
    rw [show ∀ {β : Type} (J : MI) (s : Nat) (k : Int32 → Rs β), fw_tI (lh_wI L J) (2 + 3 * t) s k = k (J (2 + 3 * t) s) from fun J s k => if_pos (Or.inl hk), h, if_neg (by decide)]
    rw [show ∀ {β : Type} (s : Nat) (v : Int32) (k : LH → Rs β), fw_tpI (lh_wI L I) (2 + 3 * t) s v k = k (lh_wI L (fw_u2 I (2 + 3 * t) s v)) from fun s v k => if_pos (Or.inl hk), fw_u2_id I h]
    rw [show ∀ {β : Type} (J : MI) (s : Nat) (k : Int32 → Rs β), fw_tI (lh_wI L J) (2 + 3 * t) s k = k (J (2 + 3 * t) s) from fun J s k => if_pos (Or.inl hk)]
  unfold f_X2_many
  rw [x_isT hS ht, hr, x_cl, x_gT hS ht, x_nn, x_isL hS ht, x_sz (x_kT hS ht).2.1, x_cl]
