set_option maxRecDepth 100000
/-! The component's find, whole. -/
/-- who is last of a team, by who is out and who have changed places -/
def x_e3 (I : MI) (x : Int32) : Int32 := if x = I 0 18 then I 0 19 else if x = I 0 19 then (if I 0 18 = -nI 1 then x else I 0 18) else x
def x_en (I : MI) (t n : Nat) : Int32 := if nI (8 * t + n) - nI 1 = I 0 17 then x_e3 I (nI (8 * t + n) - nI 1 + -nI 1) else x_e3 I (nI (8 * t + n) - nI 1)
def x_En (C : CF) (I : MI) : Prop := ∀ k, c_he C k → (nI k = x_en I (k / 8) (C 0 (k / 8)) ↔ C 11 (k / 8) = k)
theorem x_en_f {I I' : MI} (h : ∀ x, (x = 17 ∨ x = 18 ∨ x = 19) → I' 0 x = I 0 x) (t n : Nat) : x_en I' t n = x_en I t n := by
  unfold x_en x_e3
  rw [h 17 (by decide), h 18 (by decide), h 19 (by decide)]
section Fi
variable {P C : CF} {Q : Nat → Int32} {L : LH} {I : MI}
theorem x_manyW (hB : p_B P) (hW : x_W P Q L I) (hC : x_C P C L I) (hz : lh_z L + x_po I + 50 < fw_RO) {t : Nat} (ht : t < 2) : ∃ L' I', x_ev (lh_z L) (f_X2_many (2 + 3 * t) (lh_wI L I)) (nI (C 0 t)) (lh_wI L' I') ∧ x_W P Q L' I' ∧ x_C P C L' I' ∧ x_Z x_vr L I L' I' ∧ x_PU C L' I' t ∧ (∀ t', t' < 2 → I (2 + 3 * t') 3 = nI 1 → I' (2 + 3 * t') 3 = nI 1) := by
  obtain ⟨L', I', r1, r2, r3, r4, r5, r6⟩ := x_rT hB hW hC hz ht
  refine ⟨L', I', ?_, r2, r3, r4, r5, r6⟩
  unfold f_X2_many
  rw [x_isT hW.1 ht]
  refine x_ev.cl r1 (x_ev.of ?_ rfl)
  rw [x_gT r2.1 ht, x_nn, x_isL r2.1 ht, x_sz (x_kT r2.1 ht).2.1, x_cl, r5.2.1]
theorem x_endOf {t : Nat} (ht : t < 2) (hS : x_Sh L) (hP : x_PU C L I t) : f_X0_endOf 0 (nI t) (lh_wI L I) = some (x_en I t (C 0 t), lh_wI L I, 0, 0) := by
  have h30 : ∀ x : Int32, f_X0_endOf_30 0 x (lh_wI L I) = some (x_e3 I x, lh_wI L I, 0, 0) := by
    intro x
    unfold f_X0_endOf_30 x_e3
    rw [x_gI hS]
    by_cases h1 : x = I 0 18
    · rw [if_pos h1, if_pos h1, x_gI hS]
    · rw [if_neg h1, if_neg h1, x_gI hS]
      by_cases h2 : x = I 0 19
      · rw [if_pos h2, if_pos h2, x_gI hS]
        by_cases h3 : I 0 18 = -nI 1
        · rw [if_pos h3, if_pos h3]
        · rw [if_neg h3, if_neg h3, x_gI hS]
      · rw [if_neg h2, if_neg h2]
  unfold f_X0_endOf x_en
  rw [x_g1 hS, x_nn, x_rqT hS ht, x_nn, x_isT hS ht, x_many (C := C) hS ht hP.1, x_cl, hP.2.1, x_gI hS, pk_mul, nI_add]
  by_cases h : nI (8 * t + C 0 t) - nI 1 = I 0 17
  · rw [if_pos h, if_pos h, h30]
  · rw [if_neg h, if_neg h, h30]
/-- a team that has been read: breath, its last -/
theorem x_f9 {rec : Nat → Int32 → LH → Rs Unit} (hcB : c_B C) {t : Nat} (ht : t < 2) (hS : x_Sh L) : ∀ (m i n : Nat), i + m = C 0 t → m < n → ∀ I : MI, x_PU C L I t → (∀ k, k < i → I 17 (8 * t + k) = nI (C 3 (8 * t + k))) →
    ∃ I', f_X0_find_9 rec n 0 (nI t) (nI i) (lh_wI L I) = rec 0 (nI (t + 1)) (lh_wI L I') ∧ (∀ a x, ¬ ((a = 17 ∧ 8 * t ≤ x) ∨ (a = 94 ∧ x = t)) → I' a x = I a x) ∧ (∀ k, k < C 0 t → I' 17 (8 * t + k) = nI (C 3 (8 * t + k))) ∧ I' 94 t = x_en I t (C 0 t) := by
  intro m
  have h8 := hcB.1 t
  induction m with
  | zero =>
    intro i n hi hn I hP hw
    obtain ⟨n, rfl⟩ : ∃ q, n = q + 1 := ⟨n - 1, by omega⟩
    obtain rfl : i = C 0 t := by omega
    refine ⟨fw_u2 I 94 t (x_en I t (C 0 t)), ?_, fun a x h => fw_u2_ne _ _ (by omega), fun k hk => ?_, fw_u2_self _ _ _ _⟩
    · unfold f_X0_find_9
      rw [x_g1 hS, x_nn, x_rqT hS ht, x_nn, x_isT hS ht, x_many (C := C) hS ht hP.1, x_cl, hP.2.1, if_pos (nI_le (Nat.le_refl _) (by omega)), x_g15 hS, x_is1 hS, x_endOf ht hS hP, x_cl, x_nn, x_wr94 hS ht, nI_add]
    · rw [fw_u2_ne _ _ (by omega)]; exact hw k hk
  | succ m ih =>
    intro i n hi hn I hP hw
    obtain ⟨n, rfl⟩ : ∃ q, n = q + 1 := ⟨n - 1, by omega⟩
    obtain ⟨p, p1, p2, p3, p4, p5, p6⟩ := hP.2.2 i (by omega)
    obtain ⟨I', r1, r2, r3, r4⟩ := ih (i + 1) n (by omega) (by omega) (fw_u2 I 17 (8 * t + i) (nI (C 3 (8 * t + i)))) (hP.f (fw_u2_ne _ _ (by omega)) (fw_u2_ne _ _ (by omega)) (fun a x ha => fw_u2_ne _ _ (by omega))) (fun k hk => by
      by_cases q : k = i
      · subst q; rw [fw_u2_self]
      · rw [fw_u2_ne _ _ (by omega)]; exact hw k (by omega))
    refine ⟨I', ?_, fun a x h => by rw [r2 a x h, fw_u2_ne _ _ (by omega)], r3, by rw [r4]; exact x_en_f (fun x _ => fw_u2_ne _ _ (by omega)) _ _⟩
    unfold f_X0_find_9
    rw [x_g1 hS, x_nn, x_rqT hS ht, x_nn, x_isT hS ht, x_many (C := C) hS ht hP.1, x_cl, hP.2.1, if_neg (nI_ge (by omega) (by omega)), x_g10 hS, x_g1 hS, x_nn, x_rqT hS ht, x_nn, x_gT hS ht, x_nn, x_isL hS ht, x_get (x_kT hS ht).2.1 hP.2.1 (by omega) (by omega) p1, x_cl, x_ck p3, x_nn, x_pg p3, p6, x_nn, pk_mul, nI_add, x_wr17 hS (by omega), nI_add]
    exact r1
theorem x_find_t (hB : p_B P) (hcB : c_B C) {t n : Nat} (ht : t < 2) (hW : x_W P Q L I) (hC : x_C P C L I) (hz : lh_z L + x_po I + 50 < fw_RO) :
    ∃ L1 I1, (∀ M, x_ev (lh_z L1) (f_X0_find_2 n 0 (nI (t + 1)) (lh_wI L1 I1)) () M → x_ev (lh_z L) (f_X0_find_2 (n + 1) 0 (nI t) (lh_wI L I)) () M) ∧ x_W P Q L1 I1 ∧ x_C P C L1 I1 ∧ x_Z (fun a x => x_vr a x ∨ (a = 17 ∧ 8 * t ≤ x) ∨ (a = 94 ∧ x = t)) L I L1 I1 ∧ I1 (2 + 3 * t) 3 = nI 1 ∧ (∀ t', t' < 2 → I (2 + 3 * t') 3 = nI 1 → I1 (2 + 3 * t') 3 = nI 1) ∧ (∀ k, k < C 0 t → I1 17 (8 * t + k) = nI (C 3 (8 * t + k))) ∧ I1 94 t = x_en I t (C 0 t) := by
  obtain ⟨L1, I1, r1, r2, r3, r4, r5, r6⟩ := x_manyW hB hW hC hz ht
  have hS := hW.1
  have hS1 := r2.1
  have h8 := hcB.1 t
  obtain ⟨I2, q1, q2, q3, q4⟩ := x_f9 (rec := f_X0_find_2 n) hcB ht hS1 (C 0 t) 0 fw_fuel (by omega) (by unfold fw_fuel; omega) I1 r5 (fun k hk => by omega)
  have e02 : ∀ x, (x = 17 ∨ x = 18 ∨ x = 19) → I1 0 x = I 0 x := fun x hx => r4.2.2.1 0 x (by omega) (by omega)
  refine ⟨L1, I2, fun M hM => ?_, r2.f (fun a x h => q2 a x (by omega)), r3.f hS1 (fun a x h => q2 a x (by omega)), (r4.m (fun a x h => Or.inl h)).t ((x_Z.f (p := fun a x => (a = 17 ∧ 8 * t ≤ x) ∨ (a = 94 ∧ x = t)) hS1 q2 (fun a x h => by omega)).m (fun a x h => Or.inr h)), ?_, fun t' ht' h => ?_, q3, ?_⟩
  · rw [← q1] at hM
    have e1 : f_X0_find_9 (f_X0_find_2 n) fw_fuel 0 (nI t) (nI 0) (lh_wI L I) = fw_cl (f_X2_many (2 + 3 * t) (lh_wI L I)) fun v5 L4 => (fun (v5 : Int32) (L4 : LH) => if v5 ≤ nI 0 then (fw_gR 1 L4 0 15 fun r7 => fw_is 1 L4 0 <| fw_cl (f_X0_endOf 0 (nI t) L4) fun v9 L8 => fw_nn r7 fun j10 => fw_wr 100 L8 j10 (nI t) v9 fun L11 => f_X0_find_2 n 0 (nI t + nI 1) L11) else (fw_gR 1 L4 0 10 fun r12 => fw_gR 1 L4 0 1 fun r13 => fw_nn r13 fun j14 => fw_rq 106 L4 j14 (nI t) fun r15 => fw_nn r15 fun j17 => fw_gR 2 L4 j17 5 fun r16 => fw_nn r16 fun j20 => fw_is 5 L4 j20 <| fw_cl (f_J2_get j20 (nI 0) L4) fun r19 L18 => fw_ck 6 L18 r19 <| fw_nn r19 fun j22 => fw_gI 6 L18 j22 2 fun v21 => fw_nn r12 fun j23 => fw_wr 100 L18 j23 (((nI 8) * nI t) + nI 0) v21 fun L24 => f_X0_find_9 (f_X0_find_2 n) (fw_fuel - 1) 0 (nI t) (nI 0 + nI 1) L24)) v5 L4 := by
      show (fw_gR 1 (lh_wI L I) 0 1 fun r1 => fw_nn r1 fun j2 => fw_rq 106 (lh_wI L I) j2 (nI t) fun r3 => fw_nn r3 fun j6 => fw_is 2 (lh_wI L I) j6 <| fw_cl (f_X2_many j6 (lh_wI L I)) _) = _
      rw [x_g1 hS, x_nn, x_rqT hS ht, x_nn, x_isT hS ht]
      rfl
    have e2 : f_X0_find_9 (f_X0_find_2 n) fw_fuel 0 (nI t) (nI 0) (lh_wI L1 I1) = (fun (v5 : Int32) (L4 : LH) => if v5 ≤ nI 0 then (fw_gR 1 L4 0 15 fun r7 => fw_is 1 L4 0 <| fw_cl (f_X0_endOf 0 (nI t) L4) fun v9 L8 => fw_nn r7 fun j10 => fw_wr 100 L8 j10 (nI t) v9 fun L11 => f_X0_find_2 n 0 (nI t + nI 1) L11) else (fw_gR 1 L4 0 10 fun r12 => fw_gR 1 L4 0 1 fun r13 => fw_nn r13 fun j14 => fw_rq 106 L4 j14 (nI t) fun r15 => fw_nn r15 fun j17 => fw_gR 2 L4 j17 5 fun r16 => fw_nn r16 fun j20 => fw_is 5 L4 j20 <| fw_cl (f_J2_get j20 (nI 0) L4) fun r19 L18 => fw_ck 6 L18 r19 <| fw_nn r19 fun j22 => fw_gI 6 L18 j22 2 fun v21 => fw_nn r12 fun j23 => fw_wr 100 L18 j23 (((nI 8) * nI t) + nI 0) v21 fun L24 => f_X0_find_9 (f_X0_find_2 n) (fw_fuel - 1) 0 (nI t) (nI 0 + nI 1) L24)) (nI (C 0 t)) (lh_wI L1 I1) := by
      show (fw_gR 1 (lh_wI L1 I1) 0 1 fun r1 => fw_nn r1 fun j2 => fw_rq 106 (lh_wI L1 I1) j2 (nI t) fun r3 => fw_nn r3 fun j6 => fw_is 2 (lh_wI L1 I1) j6 <| fw_cl (f_X2_many j6 (lh_wI L1 I1)) _) = _
      rw [x_g1 hS1, x_nn, x_rqT hS1 ht, x_nn, x_isT hS1 ht, x_many (C := C) hS1 ht r5.1, x_cl, r5.2.1]
      rfl
    show x_ev _ (if nI 2 ≤ nI t then _ else f_X0_find_9 (f_X0_find_2 n) fw_fuel 0 (nI t) (nI 0) (lh_wI L I)) () M
    rw [if_neg (nI_ge (by omega) (by decide)), e1]
    rw [e2] at hM
    exact x_ev.cl r1 hM
  · rw [q2 _ _ (by omega)]; exact r5.1
  · rw [q2 _ _ (by omega)]; exact r6 t' ht' h
  · rw [q4]; exact x_en_f e02 _ _
/-- find: the configuration's 24 beats -/
theorem x_find (hB : p_B P) (hcB : c_B C) (hW : x_W P Q L I) (hC : x_C P C L I) (hE : x_En C I) (hz : lh_z L + x_po I + 50 < fw_RO) :
    ∃ L' I', x_ev (lh_z L) (f_X0_find 0 (lh_wI L I)) () (lh_wI L' I') ∧ x_D P C Q L' I' ∧ x_Z (fun a x => x_vz a x ∨ a = 94) L I L' I' ∧ x_S C (c_rs C 24) I' ∧ x_H C 24 I' := by
  obtain ⟨L1, I1, a1, a2, a3, a4, a5, a6, a7, a8⟩ := x_find_t (n := fw_fuel - 1) hB hcB (show 0 < 2 by decide) hW hC hz
  obtain ⟨L2, I2, b1, b2, b3, b4, b5, b6, b7, b8⟩ := x_find_t (n := fw_fuel - 2) hB hcB (show 1 < 2 by decide) a2 a3 (by have := a4.2.1; omega)
  have hS := b2.1
  have eI : ∀ a x, a < 113 → ¬ (x_vr a x ∨ a = 17 ∨ a = 94) → I2 a x = I a x := fun a x ha h => (b4.2.2.1 a x ha (by omega)).trans (a4.2.2.1 a x ha (by omega))
  have f3 : ∀ a x, ¬ (a = 18 ∨ (a = 0 ∧ 6 ≤ x ∧ x ≤ 9)) → fw_u2 (fw_u2 (fw_u2 (fw_u2 (fun j x => if j = 18 ∧ x < 16 then nI 0 else I2 j x) 0 6 (nI 12)) 0 7 (I2 0 4)) 0 8 (-nI 1)) 0 9 (nI 0) a x = I2 a x := fun a x h => by
    rw [fw_u2_ne _ _ (by omega), fw_u2_ne _ _ (by omega), fw_u2_ne _ _ (by omega), fw_u2_ne _ _ (by omega)]
    exact if_neg (by omega)
  have k18 : ∀ k, k < 16 → fw_u2 (fw_u2 (fw_u2 (fw_u2 (fun j x => if j = 18 ∧ x < 16 then nI 0 else I2 j x) 0 6 (nI 12)) 0 7 (I2 0 4)) 0 8 (-nI 1)) 0 9 (nI 0) 18 k = nI 0 := fun k hk => by
    rw [fw_u2_ne _ _ (by omega), fw_u2_ne _ _ (by omega), fw_u2_ne _ _ (by omega), fw_u2_ne _ _ (by omega)]
    exact if_pos ⟨rfl, hk⟩
  have g6 : fw_u2 (fw_u2 (fw_u2 (fw_u2 (fun j x => if j = 18 ∧ x < 16 then nI 0 else I2 j x) 0 6 (nI 12)) 0 7 (I2 0 4)) 0 8 (-nI 1)) 0 9 (nI 0) 0 6 = nI 12 := by rw [fw_u2_ne _ _ (by omega), fw_u2_ne _ _ (by omega), fw_u2_ne _ _ (by omega), fw_u2_self]
  have g7 : fw_u2 (fw_u2 (fw_u2 (fw_u2 (fun j x => if j = 18 ∧ x < 16 then nI 0 else I2 j x) 0 6 (nI 12)) 0 7 (I2 0 4)) 0 8 (-nI 1)) 0 9 (nI 0) 0 7 = I2 0 4 := by rw [fw_u2_ne _ _ (by omega), fw_u2_ne _ _ (by omega), fw_u2_self]
  have g8 : fw_u2 (fw_u2 (fw_u2 (fw_u2 (fun j x => if j = 18 ∧ x < 16 then nI 0 else I2 j x) 0 6 (nI 12)) 0 7 (I2 0 4)) 0 8 (-nI 1)) 0 9 (nI 0) 0 8 = -nI 1 := by rw [fw_u2_ne _ _ (by omega), fw_u2_self]
  have g9 : fw_u2 (fw_u2 (fw_u2 (fw_u2 (fun j x => if j = 18 ∧ x < 16 then nI 0 else I2 j x) 0 6 (nI 12)) 0 7 (I2 0 4)) 0 8 (-nI 1)) 0 9 (nI 0) 0 9 = nI 0 := fw_u2_self _ _ _ _
  have e2 : f_X0_find_2 (fw_fuel - 2) 0 (nI 2) (lh_wI L2 I2) = f_X0_find_109 fw_fuel 0 (nI 0) (lh_wI L2 (fw_u2 (fw_u2 (fw_u2 (fw_u2 (fun j x => if j = 18 ∧ x < 16 then nI 0 else I2 j x) 0 6 (nI 12)) 0 7 (I2 0 4)) 0 8 (-nI 1)) 0 9 (nI 0))) := by
    show (if nI 2 ≤ nI 2 then (fw_gR 1 (lh_wI L2 I2) 0 11 fun r1 => fw_cl (f_J3_fill r1 (nI 0) (lh_wI L2 I2)) fun _ L2 => fw_pI 1 L2 0 6 (nI 12) fun L3 => fw_gI 1 L3 0 4 fun v4 => fw_pI 1 L3 0 7 v4 fun L5 => fw_pI 1 L5 0 8 (-nI 1) fun L6 => fw_pI 1 L6 0 9 (nI 0) fun L7 => f_X0_find_109 fw_fuel 0 (nI 0) L7) else _) = _
    rw [if_pos (by decide), x_g11 hS, x_fill (hS.1 18 (by decide)).1 (hS.1 18 (by decide)).2 (by decide), x_cl, x_pI hS, x_gI hS, fw_u2_ne _ _ (by omega), x_pI hS, x_pI hS, x_pI hS]
    rfl
  generalize hJ : fw_u2 (fw_u2 (fw_u2 (fw_u2 (fun j x => if j = 18 ∧ x < 16 then nI 0 else I2 j x) 0 6 (nI 12)) 0 7 (I2 0 4)) 0 8 (-nI 1)) 0 9 (nI 0) = J at *
  have hDJ : x_D P C Q L2 J := ⟨b2.f (fun a x h => f3 a x (by omega)), b3.f hS (fun a x h => f3 a x (by omega)), by rw [f3 _ _ (by omega)]; exact b6 0 (by decide) a5, by rw [f3 _ _ (by omega)]; exact b5⟩
  have i17 : ∀ k, c_th C k → J 17 k = nI (C 3 k) := fun k hk => by
    rw [f3 _ _ (by omega)]
    have hk1 := hk.1
    have hk2 := hk.2
    by_cases q : k < 8
    · have e : k / 8 = 0 := by omega
      rw [e] at hk2
      have := a7 k (by omega)
      rw [b4.2.2.1 17 k (by omega) (by omega)]
      rw [show 8 * 0 + k = k by omega] at this
      exact this
    · have e : k / 8 = 1 := by omega
      rw [e] at hk2
      have := b7 (k - 8) (by omega)
      rw [show 8 * 1 + (k - 8) = k by omega] at this
      exact this
  have i94 : x_LM C J := fun k hk => by
    have hk16 := hk.1.1
    have e94 : J 94 (k / 8) = x_en I (k / 8) (C 0 (k / 8)) := by
      rw [f3 _ _ (by omega)]
      rcases (show k / 8 = 0 ∨ k / 8 = 1 by omega) with q | q
      · rw [q, b4.2.2.1 94 0 (by omega) (by omega)]; exact a8
      · rw [q, b8]
        exact x_en_f (fun x hx => a4.2.2.1 0 x (by omega) (by omega)) _ _
    rw [e94]
    exact hE k hk
  have iS : x_S C (c_rs C 0) J := by
    refine ⟨g6, ?_, g8, g9, fun k hk => ?_, k18⟩
    · rw [g7, eI 0 4 (by omega) (by omega), hW.2.2.1.2, ← hC.1.1]; rfl
    · rw [i17 k hk]
      show _ = nI (if c_th C k then C 3 k else 0)
      rw [if_pos hk]
  have hpJ : x_po J = x_po I2 := x_po_f (fun j hj => f3 j 3 (by omega))
  obtain ⟨L', I', d1, d2, d3, d4, d5⟩ := x_109 (P := P) (Q := Q) hB hcB 24 0 fw_fuel rfl (by decide) L2 J hDJ i94 iS (fun q hq => by omega) (by have := a4.2.1; have := b4.2.1; omega)
  refine ⟨L', I', ?_, d2, ((a4.m (fun a x h => by omega)).t (b4.m (fun a x h => by omega))).t (((x_Z.f (p := fun a x => a = 18 ∨ (a = 0 ∧ 6 ≤ x ∧ x ≤ 9)) hS f3 (fun a x h => by omega)).m (fun a x h => by omega)).t (d3.m (fun a x h => Or.inl h))), d4, d5⟩
  unfold f_X0_find
  exact a1 _ (b1 _ (by rw [e2]; exact d1))
end Fi
