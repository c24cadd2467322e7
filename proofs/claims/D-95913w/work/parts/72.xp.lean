set_option maxRecDepth 100000
/-! The component's beats, one after another. -/
abbrev x_vz (a x : Nat) : Prop := x_vr a x ∨ (a = 0 ∧ 6 ≤ x ∧ x ≤ 9) ∨ a = 17 ∨ a = 18 ∨ (20 ≤ a ∧ a < 44) ∨ (45 ≤ a ∧ a < 69) ∨ (70 ≤ a ∧ a < 94)
theorem x_Y.f {C : CF} {b : Nat} {S : CF} {q : Nat} {I I' : MI} (h : x_Y C b S q I) (hb : b < 24) (e : ∀ a x, (a = 17 ∨ a = 18 ∨ a = 45 + b ∨ a = 20 + b) → I' a x = I a x) : x_Y C b S q I' :=
  ⟨fun k hk => (e _ _ (by omega)).trans (h.1 k hk), fun k hk => (e _ _ (by omega)).trans (h.2.1 k hk), fun k hk => (e _ _ (by omega)).trans (h.2.2.1 k hk), fun u hu => (e _ _ (by omega)).trans (h.2.2.2 u hu)⟩
section Ps
variable {P C : CF} {Q : Nat → Int32} {L : LH} {I : MI}
theorem x_D.z {p : Nat → Nat → Prop} {L' : LH} {I' : MI} (h : x_D P C Q L I) (hW : x_W P Q L' I') (hC : x_C P C L' I') (hZ : x_Z p L I L' I') : x_D P C Q L' I' := by
  obtain ⟨-, -, z3, z4, -⟩ := hZ.2.2.2.1 h.2.2.1 h.2.2.2
  exact ⟨hW, hC, z3, z4⟩
theorem x_D.call (hB : p_B P) (h : x_D P C Q L I) (hz : lh_z L + x_po I + 50 < fw_RO) {t b : Nat} (ht : t < 2) (hb : b < 24) : ∃ L' I', x_ev (lh_z L) (f_X0_callBy 0 (nI t) (nI b) (lh_wI L I)) (nI (C 4 (24 * t + b))) (lh_wI L' I') ∧ x_D P C Q L' I' ∧ x_Z x_vr L I L' I' := by
  obtain ⟨L', I', r1, r2, r3, r4, r5⟩ := x_callBy hB h.1 h.2.1 hz ht hb
  exact ⟨L', I', r1, h.z r2 r3 r4, r4⟩
theorem x_team (hB : p_B P) (hcB : c_B C) {b t n : Nat} (hb : b < 24) (ht : t < 2) {S : CF} (hS1 : ∀ k, S 1 k ≤ C 3 k) (hS2 : ∀ k, S 2 k ≤ 1000) (hS01 : S 0 1 ≤ 9) (hwon : ¬ c_won (S 0 0)) (hD : x_D P C Q L I) (hL : x_LM C I) (h7 : I 0 7 = nI (c_we C b S)) (hY : x_Y C b S (8 * t) I) (hz : lh_z L + x_po I + 50 < fw_RO) :
    ∃ L1 I1, (∀ M, x_ev (lh_z L1) (f_X0_tugs_10 n 0 (nI b) (nI (if c_dg C b = true then 1 else 0)) (nI (t + 1)) (lh_wI L1 I1)) () M → x_ev (lh_z L) (f_X0_tugs_10 (n + 1) 0 (nI b) (nI (if c_dg C b = true then 1 else 0)) (nI t) (lh_wI L I)) () M) ∧ x_D P C Q L1 I1 ∧ x_Z (fun a x => x_vr a x ∨ a = 17 ∨ a = 18 ∨ a = 45 + b ∨ a = 20 + b) L I L1 I1 ∧ x_Y C b S (8 * (t + 1)) I1 := by
  have h8 := hcB.1 t
  have hw9 : c_we C b S ≤ 9 := c_rn_le hS01 _
  have go : ∀ (L0 : LH) (I0 : MI), x_D P C Q L0 I0 → x_LM C I0 → I0 0 7 = nI (c_we C b S) → x_Y C b S (8 * t) I0 → ∃ I1, f_X0_tugs_34 (f_X0_tugs_10 n) fw_fuel 0 (nI b) (nI (if c_dg C b = true then 1 else 0)) (nI t) (nI (c_ca C b t)) (nI 0) (lh_wI L0 I0) = f_X0_tugs_10 n 0 (nI b) (nI (if c_dg C b = true then 1 else 0)) (nI (t + 1)) (lh_wI L0 I1) ∧ m_f (fun j _ => j = 17 ∨ j = 18 ∨ j = 45 + b ∨ j = 20 + b) I0 I1 ∧ x_Y C b S (8 * (t + 1)) I1 := by
    intro L0 I0 hD0 hL0 h70 hY0
    obtain ⟨I1, r1, r2, r3⟩ := x_34 (rec := f_X0_tugs_10 n) hcB hb ht hS1 hS2 hwon rfl hw9 (x2 := nI (if c_dg C b = true then 1 else 0)) (C 0 t) 0 fw_fuel (by omega) (by unfold fw_fuel; omega) I0 hD0 hL0 h70 hY0
    refine ⟨I1, r1, r2, ?_⟩
    have := r3.skip (n := 8 - C 0 t) (fun k h1 h2 q => by
      have q2 := q.2
      have ek : k / 8 = t := by omega
      rw [ek] at q2
      omega)
    rw [show 8 * t + C 0 t + (8 - C 0 t) = 8 * (t + 1) by omega] at this
    exact this
  by_cases hd : c_dg C b = true
  · obtain ⟨I1, r1, r2, r3⟩ := go L I hD hL h7 hY
    refine ⟨L, I1, fun M hM => ?_, hD.f (r2.m (fun j x q => by omega)), (x_Z.f hD.1.1 r2 (fun a x q => by omega)).m (fun a x q => Or.inr q), r3⟩
    show x_ev _ (if nI 2 ≤ nI t then _ else if nI (if c_dg C b = true then 1 else 0) = 0 then _ else f_X0_tugs_29 (f_X0_tugs_10 n) 0 (nI b) (nI (if c_dg C b = true then 1 else 0)) (nI t) (nI 0) (lh_wI L I)) () M
    rw [if_neg (nI_ge (by omega) (by decide)), if_neg (by rw [if_pos hd]; decide)]
    unfold f_X0_tugs_29
    rw [show nI 0 = nI (c_ca C b t) from by unfold c_ca; rw [if_pos hd]] at *
    rw [show nI (c_ca C b t) = nI 0 from by unfold c_ca; rw [if_pos hd]] at r1 ⊢
    rw [r1]
    exact hM
  · obtain ⟨L0, I0, c1, c2, c3⟩ := hD.call hB hz ht hb
    have e0 : ∀ a x, a < 113 → ¬ x_vr a x → I0 a x = I a x := fun a x => c3.2.2.1 a x
    obtain ⟨I1, r1, r2, r3⟩ := go L0 I0 c2 (fun k hk => by have := hk.1.1; rw [e0 94 _ (by omega) (by omega)]; exact hL k hk) (by rw [e0 0 7 (by omega) (by omega)]; exact h7) (hY.f hb (fun a x q => e0 a x (by omega) (by omega)))
    have hca : c_ca C b t = C 4 (24 * t + b) := by unfold c_ca; rw [if_neg hd]
    refine ⟨L0, I1, fun M hM => ?_, c2.f (r2.m (fun j x q => by omega)), (c3.m (fun a x q => Or.inl q)).t ((x_Z.f c2.1.1 r2 (fun a x q => by omega)).m (fun a x q => Or.inr q)), r3⟩
    show x_ev _ (if nI 2 ≤ nI t then _ else if nI (if c_dg C b = true then 1 else 0) = 0 then (fw_is 1 (lh_wI L I) 0 <| fw_cl (f_X0_callBy 0 (nI t) (nI b) (lh_wI L I)) fun v13 L12 => f_X0_tugs_29 (f_X0_tugs_10 n) 0 (nI b) (nI (if c_dg C b = true then 1 else 0)) (nI t) v13 L12) else _) () M
    rw [if_neg (nI_ge (by omega) (by decide)), if_pos (by rw [if_neg hd]; exact nI_0), x_is1 hD.1.1]
    refine x_ev.cl c1 ?_
    unfold f_X0_tugs_29
    rw [← hca, r1]
    exact hM
theorem x_tugs (hB : p_B P) (hcB : c_B C) {b : Nat} (hb : b < 24) {S : CF} (hS1 : ∀ k, S 1 k ≤ C 3 k) (hS2 : ∀ k, S 2 k ≤ 1000) (hS01 : S 0 1 ≤ 9) (hS03 : S 0 3 ≤ 1000) (hs : ∀ t, c_s C b S t ≤ 1000) (hwon : ¬ c_won (S 0 0)) (hD : x_D P C Q L I) (hL : x_LM C I) (h6 : I 0 6 = nI (S 0 0)) (h7 : I 0 7 = nI (c_we C b S)) (h8 : I 0 8 = -nI 1) (h9 : I 0 9 = nI (S 0 3)) (hY : x_Y C b S 0 I) (hz : lh_z L + x_po I + 50 < fw_RO) :
    ∃ L' I', x_ev (lh_z L) (f_X0_tugs 0 (nI b) (lh_wI L I)) () (lh_wI L' I') ∧ x_D P C Q L' I' ∧ x_Z (fun a x => x_vr a x ∨ (a = 0 ∧ (x = 6 ∨ x = 8 ∨ x = 9)) ∨ a = 17 ∨ a = 18 ∨ a = 45 + b ∨ a = 20 + b) L I L' I' ∧ I' 0 6 = nI (c_r C b S) ∧ I' 0 8 = v_wb (if c_won (c_r C b S) then b + 1 else 0) ∧ I' 0 9 = nI (S 0 3 + (if c_s C b S 0 = c_s C b S 1 then 1 else 0)) ∧ x_Y C b S 16 I' := by
  have hX := hD.xf
  obtain ⟨L1, I1, g1, d1, z1, y1⟩ := x_team (n := fw_fuel - 1) hB hcB hb (show 0 < 2 by decide) hS1 hS2 hS01 hwon hD hL h7 hY hz
  have hz1 := z1.2.1
  have e1 : ∀ a x, a < 113 → ¬ (x_vr a x ∨ a = 17 ∨ a = 18 ∨ a = 45 + b ∨ a = 20 + b) → I1 a x = I a x := z1.2.2.1
  obtain ⟨L2, I2, g2, d2, z2, y2⟩ := x_team (n := fw_fuel - 2) hB hcB hb (show 1 < 2 by decide) hS1 hS2 hS01 hwon d1 (fun k hk => by have := hk.1.1; rw [e1 94 _ (by omega) (by omega)]; exact hL k hk) (by rw [e1 0 7 (by omega) (by omega)]; exact h7) y1 (by omega)
  have e2 : ∀ a x, a < 113 → ¬ (x_vr a x ∨ a = 17 ∨ a = 18 ∨ a = 45 + b ∨ a = 20 + b) → I2 a x = I a x := fun a x ha hp => (z2.2.2.1 a x ha hp).trans (e1 a x ha hp)
  have hr : c_r C b S = c_go (S 0 0) (c_s C b S 0) (c_s C b S 1) := if_neg hwon
  have er := x_rope (n := fw_fuel - 3) (x2 := nI (if c_dg C b = true then 1 else 0)) (I := I2) d2.1.1 hb hwon (by rw [e2 0 6 (by omega) (by omega)]; exact h6) (s0 := c_s C b S 0) (s1 := c_s C b S 1) (y2.2.2.2 0 (by decide)) (y2.2.2.2 1 (by decide)) (by rw [e2 0 9 (by omega) (by omega)]; exact h9) (by rw [e2 0 8 (by omega) (by omega)]; exact h8) (hs 0) (hs 1) hS03
  have f3 : m_f (fun a x => a = 0 ∧ (x = 6 ∨ x = 8 ∨ x = 9)) I2 (fw_u2 (fw_u2 (fw_u2 I2 0 6 (nI (c_go (S 0 0) (c_s C b S 0) (c_s C b S 1)))) 0 9 (nI (S 0 3 + (if c_s C b S 0 = c_s C b S 1 then 1 else 0)))) 0 8 (if c_won (c_go (S 0 0) (c_s C b S 0) (c_s C b S 1)) then nI b else -nI 1)) := (((m_f.r I2).w (by omega)).w (by omega)).w (by omega)
  have hD2 := d2.f (f3.m (fun a x q => by omega))
  refine ⟨L2, _, ?_, hD2, ((z1.m (fun a x q => by omega)).t (z2.m (fun a x q => by omega))).t ((x_Z.f d2.1.1 f3 (fun a x q => by omega)).m (fun a x q => Or.inr (Or.inl q))), ?_, ?_, ?_, y2.f hb (fun a x q => f3 a x (by omega))⟩
  · unfold f_X0_tugs
    rw [x_is1 hD.1.1, x_dog hcB hD.1.1 hX.2.2.1 hb, x_cl]
    exact g1 _ (g2 _ (x_ev.of er rfl))
  · rw [hr, fw_u2_ne _ _ (by omega), fw_u2_ne _ _ (by omega), fw_u2_self]
  · rw [hr, fw_u2_self]
    split <;> rfl
  · rw [fw_u2_ne _ _ (by omega), fw_u2_self]
/-- the state between beats; what the beats before b have left -/
def x_S (C S : CF) (I : MI) : Prop := I 0 6 = nI (S 0 0) ∧ I 0 7 = nI (S 0 1) ∧ I 0 8 = v_wb (S 0 2) ∧ I 0 9 = nI (S 0 3) ∧ (∀ k, c_th C k → I 17 k = nI (S 1 k)) ∧ (∀ k, k < 16 → I 18 k = nI (S 2 k))
def x_H (C : CF) (b : Nat) (I : MI) : Prop := ∀ q, q < b → I (20 + q) 0 = nI (c_rs C (q + 1) 0 0) ∧ I (20 + q) 3 = nI (c_rs C (q + 1) 0 1) ∧ (∀ u, u < 2 → I (20 + q) (1 + u) = nI (c_rs C (q + 1) 4 u)) ∧ (∀ k, k < 16 → I (45 + q) k = nI (c_rs C (q + 1) 3 k)) ∧ (∀ k, c_th C k → I (70 + q) k = nI (c_rs C (q + 1) 1 k))
theorem x_p45 {b : Nat} (hb : b < 24) (hS : x_Sh L) : f_X0_passes_45 0 (nI b) (lh_wI L I) = some ((), lh_wI L (fun a x => if a = 70 + b ∧ x < 16 then I 17 x else fw_u2 (fw_u2 I (20 + b) 0 (I 0 6)) (20 + b) 3 (I 0 7) a x), 0, 0) := by
  unfold f_X0_passes_45
  rw [x_g12 hS, x_nn, x_rqR hS hb, x_gI hS, x_nn, x_wrR hS hb (by decide), x_g12 hS, x_nn, x_rqR hS hb, x_gI hS, x_nn, x_wrR hS hb (by decide), x_g10 hS, x_g14 hS, x_nn, x_rqB hS hb, x_nn, x_nn, fw_u2_ne _ _ (by omega)]
  have hk := hS.1
  have k1 := (hk (70 + b) (by omega)).1
  have k2 := (hk (70 + b) (by omega)).2
  have k3 := x_kdB hb
  unfold fw_cp
  have c0 : (nI 0).toNatClampNeg = 0 := by decide
  have c16 : (nI 16).toNatClampNeg = 16 := by decide
  rw [c0, c16, if_pos ⟨⟨(hk 17 (by decide)).1, k1.trans k3.1⟩, ⟨by decide, by decide, by decide⟩, ⟨by show 0 + 16 ≤ lh_n L 17; rw [(hk 17 (by decide)).2]; decide, by show 0 + 16 ≤ lh_n L (70 + b); rw [k2, k3.2]; decide⟩, List.all_eq_true.mpr (fun _ _ => rfl)⟩]
  show some ((), lh_wI L (fw_u1 (fw_u2 (fw_u2 I (20 + b) 0 (I 0 6)) (20 + b) 3 (I 0 7)) (70 + b) (va_cpy (fw_u2 (fw_u2 I (20 + b) 0 (I 0 6)) (20 + b) 3 (I 0 7) 17) (fw_u2 (fw_u2 I (20 + b) 0 (I 0 6)) (20 + b) 3 (I 0 7) (70 + b)) 0 0 16)), 0, 0) = _
  congr 4
  funext a x
  unfold fw_u1 va_cpy
  by_cases h : a = 70 + b
  · rw [if_pos h]
    by_cases h2 : x < 16
    · rw [if_pos ⟨Nat.zero_le _, by omega⟩, if_pos ⟨h, h2⟩, fw_u2_ne _ _ (by omega), fw_u2_ne _ _ (by omega), show 0 + (x - 0) = x by omega]
    · rw [if_neg (by omega), if_neg (by omega), h]
  · rw [if_neg h, if_neg (fun q => h q.1)]
end Ps
