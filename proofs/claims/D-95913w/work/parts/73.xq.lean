set_option maxRecDepth 100000
/-! The component's find. -/
theorem x_Y.won {C : CF} {b : Nat} {S : CF} {I : MI} (h : x_Y C b S 0 I) (hw : c_won (S 0 0)) : x_Y C b S 16 I := by
  have hf : ∀ k, c_f C b S k = (0, S 1 k) := fun k => if_pos hw
  refine ⟨fun k hk => ?_, fun k hk => ?_, fun k hk => ?_, fun u hu => ?_⟩
  · rw [h.1 k hk, if_neg (by omega)]
    split
    · rw [hf]
    · rfl
  · rw [h.2.1 k hk, if_neg (by omega), hf]
    split <;> rfl
  · rw [h.2.2.1 k hk, if_neg (by omega), hf]
    split <;> rfl
  · rw [h.2.2.2 u hu, show 16 = 0 + 16 from rfl, c_ps_out (fun k _ _ _ => by show (c_f C b S k).1 = 0; rw [hf])]
section Fd
variable {P C : CF} {Q : Nat → Int32} {L : LH} {I : MI}
theorem x_LM.f {I' : MI} (h : x_LM C I) (e : ∀ x, I' 94 x = I 94 x) : x_LM C I' := fun k hk => by rw [e]; exact h k hk
theorem x_passes (hB : p_B P) (hcB : c_B C) {b : Nat} (hb : b < 24) (hD : x_D P C Q L I) (hL : x_LM C I) (hS : x_S C (c_rs C b) I) (hH : x_H C b I) (hz : lh_z L + x_po I + 50 < fw_RO) :
    ∃ L' I', x_ev (lh_z L) (f_X0_passes 0 (nI b) (lh_wI L I)) () (lh_wI L' I') ∧ x_D P C Q L' I' ∧ x_Z x_vz L I L' I' ∧ x_LM C I' ∧ x_S C (c_rs C (b + 1)) I' ∧ x_H C (b + 1) I' := by
  obtain ⟨B1, B2, B3, B4, B5, B6, B7, B8⟩ := c_rs_SB hcB b
  obtain ⟨s6, s7, s8, s9, s17, s18⟩ := hS
  have hSh := hD.1.1
  have hX := hD.xf
  -- rain, the rows emptied
  have f1 : m_f x_v I (fw_u2 I 0 7 (nI (c_we C b (c_rs C b)))) := (m_f.r I).w (by omega)
  have f2 : ∀ a x, ¬ ((a = 0 ∧ x = 7) ∨ a = 45 + b ∨ (a = 20 + b ∧ (x = 1 ∨ x = 2))) → fw_u2 (fw_u2 (fun j x => if j = 45 + b ∧ x < 16 then nI 0 else fw_u2 I 0 7 (nI (c_we C b (c_rs C b))) j x) (20 + b) 1 (nI 0)) (20 + b) 2 (nI 0) a x = I a x := fun a x h => by
    rw [fw_u2_ne _ _ (by omega), fw_u2_ne _ _ (by omega)]
    show (if a = 45 + b ∧ x < 16 then nI 0 else fw_u2 I 0 7 _ a x) = _
    rw [if_neg (by omega), fw_u2_ne _ _ (by omega)]
  generalize hJ : fw_u2 (fw_u2 (fun j x => if j = 45 + b ∧ x < 16 then nI 0 else fw_u2 I 0 7 (nI (c_we C b (c_rs C b))) j x) (20 + b) 1 (nI 0)) (20 + b) 2 (nI 0) = J at f2
  have j7 : J 0 7 = nI (c_we C b (c_rs C b)) := by
    rw [← hJ, fw_u2_ne _ _ (by omega), fw_u2_ne _ _ (by omega)]
    show (if 0 = 45 + b ∧ 7 < 16 then nI 0 else fw_u2 I 0 7 _ 0 7) = _
    rw [if_neg (by omega), fw_u2_self]
  have jF : ∀ k, k < 16 → J (45 + b) k = nI 0 := fun k hk => by
    rw [← hJ, fw_u2_ne _ _ (by omega), fw_u2_ne _ _ (by omega)]
    exact if_pos ⟨rfl, hk⟩
  have jR : ∀ u, u < 2 → J (20 + b) (1 + u) = nI 0 := fun u hu => by
    rcases (show u = 0 ∨ u = 1 by omega) with q | q <;> subst q
    · rw [← hJ, fw_u2_ne _ _ (by omega), fw_u2_self]
    · rw [← hJ, fw_u2_self]
  have fJ : m_f x_v I J := fun a x h => f2 a x (by omega)
  have hDJ := hD.f fJ
  have hY : x_Y C b (c_rs C b) 0 J := by
    refine ⟨fun k hk => ?_, fun k hk => ?_, fun k hk => ?_, fun u hu => ?_⟩
    · rw [f2 17 k (by omega), s17 k hk, if_neg (by omega)]
    · rw [f2 18 k (by omega), s18 k hk, if_neg (by omega), Nat.add_zero]
    · rw [jF k hk, if_neg (by omega)]
    · rw [jR u hu]; rfl
  have zJ : x_Z x_vz L I L J := (x_Z.f (p := fun a x => (a = 0 ∧ x = 7) ∨ a = 45 + b ∨ (a = 20 + b ∧ (x = 1 ∨ x = 2))) hSh f2 (fun a x q => by omega)).m (fun a x q => by omega)
  have hpJ : lh_z L + x_po J ≤ lh_z L + x_po I := zJ.2.1
  -- what is left to do once both have pulled
  have fin : ∀ (L1 : LH) (I1 : MI) (o : Rs Unit), x_D P C Q L1 I1 → x_Z x_vz L J L1 I1 → (∀ a x, a < 113 → ¬ (x_vr a x ∨ (a = 0 ∧ (x = 6 ∨ x = 8 ∨ x = 9)) ∨ a = 17 ∨ a = 18 ∨ a = 45 + b ∨ a = 20 + b) → I1 a x = J a x) → I1 0 6 = nI (c_r C b (c_rs C b)) → I1 0 8 = v_wb (c_rs C (b + 1) 0 2) → I1 0 9 = nI (c_rs C (b + 1) 0 3) → x_Y C b (c_rs C b) 16 I1 → x_ev (lh_z L) o () (lh_wI L1 I1) → (f_X0_passes 0 (nI b) (lh_wI L I) = fw_cl o fun _ L18 => f_X0_passes_45 0 (nI b) L18) → ∃ L' I', x_ev (lh_z L) (f_X0_passes 0 (nI b) (lh_wI L I)) () (lh_wI L' I') ∧ x_D P C Q L' I' ∧ x_Z x_vz L I L' I' ∧ x_LM C I' ∧ x_S C (c_rs C (b + 1)) I' ∧ x_H C (b + 1) I' := by
    intro L1 I1 o hD1 hZ1 e1 h6 h8 h9 hY1 ho hpass
    obtain ⟨y1, y2, y3, y4⟩ := hY1
    have h7 : I1 0 7 = nI (c_we C b (c_rs C b)) := by rw [e1 0 7 (by omega) (by omega)]; exact j7
    have f4 : ∀ a x, ¬ (a = 70 + b ∨ a = 20 + b) → (fun a x => if a = 70 + b ∧ x < 16 then I1 17 x else fw_u2 (fw_u2 I1 (20 + b) 0 (I1 0 6)) (20 + b) 3 (I1 0 7) a x) a x = I1 a x := fun a x h => by
      show (if a = 70 + b ∧ x < 16 then _ else _) = _
      rw [if_neg (by omega), fw_u2_ne _ _ (by omega), fw_u2_ne _ _ (by omega)]
    have f20 : ∀ x, (fun a x => if a = 70 + b ∧ x < 16 then I1 17 x else fw_u2 (fw_u2 I1 (20 + b) 0 (I1 0 6)) (20 + b) 3 (I1 0 7) a x) (20 + b) x = if x = 3 then I1 0 7 else if x = 0 then I1 0 6 else I1 (20 + b) x := fun x => by
      show (if 20 + b = 70 + b ∧ x < 16 then _ else fw_u2 (fw_u2 I1 (20 + b) 0 (I1 0 6)) (20 + b) 3 (I1 0 7) (20 + b) x) = _
      rw [if_neg (by omega)]
      simp only [fw_u2_at, true_and]
    have f70 : ∀ x, x < 16 → (fun a x => if a = 70 + b ∧ x < 16 then I1 17 x else fw_u2 (fw_u2 I1 (20 + b) 0 (I1 0 6)) (20 + b) 3 (I1 0 7) a x) (70 + b) x = I1 17 x := fun x hx => if_pos ⟨rfl, hx⟩
    generalize hK : (fun a x => if a = 70 + b ∧ x < 16 then I1 17 x else fw_u2 (fw_u2 I1 (20 + b) 0 (I1 0 6)) (20 + b) 3 (I1 0 7) a x) = K at f4 f20 f70
    have er : x_ev (lh_z L) (f_X0_passes 0 (nI b) (lh_wI L I)) () (lh_wI L1 K) := by
      rw [hpass]
      refine x_ev.cl ho (x_ev.of ?_ rfl)
      rw [x_p45 hb hD1.1.1, hK]
    have eK : ∀ a x, a < 113 → ¬ (x_vr a x ∨ (a = 0 ∧ (x = 6 ∨ x = 8 ∨ x = 9)) ∨ (a = 0 ∧ x = 7) ∨ a = 17 ∨ a = 18 ∨ a = 45 + b ∨ a = 20 + b ∨ a = 70 + b) → K a x = I a x := fun a x ha h => by
      rw [f4 a x (by omega), e1 a x ha (by omega), f2 a x (by omega)]
    refine ⟨L1, K, er, hD1.f (fun a x h => f4 a x (by omega)), (zJ.t hZ1).t ((x_Z.f (p := fun a _ => a = 70 + b ∨ a = 20 + b) hD1.1.1 f4 (fun a x q => by omega)).m (fun a x q => by omega)), hL.f (fun x => eK 94 x (by omega) (by omega)), ⟨?_, ?_, ?_, ?_, fun k hk => ?_, fun k hk => ?_⟩, fun q hq => ?_⟩
    · rw [f4 _ _ (by omega)]; exact h6
    · rw [f4 _ _ (by omega)]; exact h7
    · rw [f4 _ _ (by omega)]; exact h8
    · rw [f4 _ _ (by omega)]; exact h9
    · rw [f4 _ _ (by omega), y1 k hk, if_pos hk.1]; rfl
    · rw [f4 _ _ (by omega), y2 k hk, if_pos hk]; rfl
    · by_cases hqb : q = b
      · subst hqb
        refine ⟨?_, ?_, fun u hu => ?_, fun k hk => ?_, fun k hk => ?_⟩
        · rw [f20, if_neg (by omega), if_pos rfl, h6]; rfl
        · rw [f20, if_pos rfl, h7]; rfl
        · rw [f20, if_neg (by omega), if_neg (by omega), y4 u hu]; rfl
        · rw [f4 _ _ (by omega), y3 k hk, if_pos hk]; rfl
        · rw [f70 k hk.1, y1 k hk, if_pos hk.1]; rfl
      · obtain ⟨u1, u2, u3, u4, u5⟩ := hH q (by omega)
        refine ⟨?_, ?_, fun u hu => ?_, fun k hk => ?_, fun k hk => ?_⟩
        · rw [eK _ _ (by omega) (by omega)]; exact u1
        · rw [eK _ _ (by omega) (by omega)]; exact u2
        · rw [eK _ _ (by omega) (by omega)]; exact u3 u hu
        · rw [eK _ _ (by omega) (by omega)]; exact u4 k hk
        · rw [eK _ _ (by omega) (by omega)]; exact u5 k hk
  have hk45 := x_kdF hb
  have hd0 : f_X0_passes 0 (nI b) (lh_wI L I) = if nI (if c_won (c_rs C b 0 0) then 1 else 0) = 0 then (fw_cl (f_X0_tugs 0 (nI b) (lh_wI L J)) fun _ L18 => f_X0_passes_45 0 (nI b) L18) else f_X0_passes_45 0 (nI b) (lh_wI L J) := by
    unfold f_X0_passes
    rw [x_is1 hSh, x_rains hcB hSh hX.2.2.1 hb B2 s7, x_cl, x_g13 hSh, x_nn, x_rqF hSh hb, x_fill ((hSh.1 (45 + b) (by omega)).1.trans hk45.1) ((hSh.1 (45 + b) (by omega)).2.trans hk45.2) (by decide), x_cl, x_g12 hSh, x_nn, x_rqR hSh hb, x_nn, x_wrR hSh hb (by decide), x_g12 hSh, x_nn, x_rqR hSh hb, x_nn, x_wrR hSh hb (by decide), hJ, x_is1 hSh, x_isWon hSh B1 (by rw [f2 0 6 (by omega)]; exact s6), x_cl, x_is1 hSh]
  by_cases hwon : c_won (c_rs C b 0 0)
  · rw [if_pos hwon, if_neg (show ¬ nI 1 = 0 by decide)] at hd0
    have hr : c_r C b (c_rs C b) = c_rs C b 0 0 := if_pos hwon
    refine fin L J (some ((), lh_wI L J, 0, 0)) hDJ (x_Z.r hSh) (fun _ _ _ _ => rfl) ?_ ?_ ?_ (hY.won hwon) (x_ev.of rfl rfl) (by rw [hd0, x_cl])
    · rw [hr, f2 0 6 (by omega)]; exact s6
    · show _ = v_wb (if c_won (c_rs C b 0 0) then c_rs C b 0 2 else _)
      rw [if_pos hwon, f2 0 8 (by omega)]; exact s8
    · show _ = nI (if c_won (c_rs C b 0 0) then c_rs C b 0 3 else _)
      rw [if_pos hwon, f2 0 9 (by omega)]; exact s9
  · rw [if_neg hwon, if_pos nI_0] at hd0
    have s82 : I 0 8 = -nI 1 := by rw [s8, B6 hwon]; rfl
    obtain ⟨L1, I1, t1, t2, t3, t4, t5, t6, t7⟩ := x_tugs hB hcB hb B3 (fun k => by have := B5 k; omega) B2 (by omega) (fun t => Nat.le_trans (c_s_le hcB b t) (by decide)) hwon hDJ (hL.f (fun x => f2 94 x (by omega))) (by rw [f2 0 6 (by omega)]; exact s6) j7 (by rw [f2 0 8 (by omega)]; exact s82) (by rw [f2 0 9 (by omega)]; exact s9) hY (by omega)
    refine fin L1 I1 _ t2 (t3.m (fun a x q => by omega)) (fun a x ha h => t3.2.2.1 a x ha h) t4 ?_ ?_ t7 t1 hd0
    · show _ = v_wb (if c_won (c_rs C b 0 0) then c_rs C b 0 2 else _)
      rw [if_neg hwon]; exact t5
    · show _ = nI (if c_won (c_rs C b 0 0) then c_rs C b 0 3 else _)
      rw [if_neg hwon]; exact t6
theorem x_109 (hB : p_B P) (hcB : c_B C) : ∀ (m b n : Nat), b + m = 24 → m < n → ∀ (L : LH) (I : MI), x_D P C Q L I → x_LM C I → x_S C (c_rs C b) I → x_H C b I → lh_z L + x_po I + 50 < fw_RO → ∃ L' I', x_ev (lh_z L) (f_X0_find_109 n 0 (nI b) (lh_wI L I)) () (lh_wI L' I') ∧ x_D P C Q L' I' ∧ x_Z x_vz L I L' I' ∧ x_S C (c_rs C 24) I' ∧ x_H C 24 I' := by
  intro m
  induction m with
  | zero =>
    intro b n hb hn L I hD hL hS hH hz
    obtain ⟨n, rfl⟩ : ∃ q, n = q + 1 := ⟨n - 1, by omega⟩
    obtain rfl : b = 24 := by omega
    refine ⟨L, I, x_ev.of ?_ rfl, hD, x_Z.r hD.1.1, hS, hH⟩
    unfold f_X0_find_109
    rw [if_pos (by decide)]
  | succ m ih =>
    intro b n hb hn L I hD hL hS hH hz
    obtain ⟨n, rfl⟩ : ∃ q, n = q + 1 := ⟨n - 1, by omega⟩
    obtain ⟨L1, I1, r1, r2, r3, r4, r5, r6⟩ := x_passes hB hcB (show b < 24 by omega) hD hL hS hH hz
    obtain ⟨L', I', q1, q2, q3, q4, q5⟩ := ih (b + 1) n (by omega) (by omega) L1 I1 r2 r4 r5 r6 (by have := r3.2.1; omega)
    refine ⟨L', I', ?_, q2, r3.t q3, q4, q5⟩
    unfold f_X0_find_109
    rw [if_neg (nI_ge (by omega) (by decide)), x_is1 hD.1.1]
    refine x_ev.cl r1 ?_
    rw [nI_add]
    exact q1
end Fd
