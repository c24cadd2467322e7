set_option maxRecDepth 100000
/-! The component's beats. -/
theorem c_f_no' {C : CF} {b : Nat} {S : CF} {k : Nat} (h : ¬ c_th C k) : c_f C b S k = (0, S 1 k) := by
  unfold c_f c_fo
  split
  · rfl
  · rw [if_neg (fun q => h q.1.1)]
/-- a team's pullers before q have pulled (q = 8 t + i) -/
def x_Y (C : CF) (b : Nat) (S : CF) (q : Nat) (I : MI) : Prop := (∀ k, c_th C k → I 17 k = nI (if k < q then (c_f C b S k).2 else S 1 k)) ∧ (∀ k, k < 16 → I 18 k = nI (S 2 k + (if k < q then (c_f C b S k).1 else 0))) ∧ (∀ k, k < 16 → I (45 + b) k = nI (if k < q then (c_f C b S k).1 else 0)) ∧ (∀ u, u < 2 → I (20 + b) (1 + u) = nI (c_ps (fun j => (c_f C b S j).1) u q))
theorem x_Y.skip {C : CF} {b : Nat} {S : CF} {q n : Nat} {I : MI} (h : x_Y C b S q I) (hn : ∀ k, q ≤ k → k < q + n → ¬ c_th C k) : x_Y C b S (q + n) I := by
  obtain ⟨y1, y2, y3, y4⟩ := h
  have hf : ∀ k, q ≤ k → k < q + n → c_f C b S k = (0, S 1 k) := fun k h1 h2 => c_f_no' (hn k h1 h2)
  refine ⟨fun k hk => ?_, fun k hk => ?_, fun k hk => ?_, fun u hu => ?_⟩
  · rw [y1 k hk]
    by_cases z : k < q
    · rw [if_pos z, if_pos (by omega)]
    · by_cases z2 : k < q + n
      · exact absurd hk (hn k (by omega) z2)
      · rw [if_neg z, if_neg z2]
  · rw [y2 k hk]
    by_cases z : k < q
    · rw [if_pos z, if_pos (by omega)]
    · by_cases z2 : k < q + n
      · rw [if_neg z, if_pos z2, hf k (by omega) z2]
      · rw [if_neg z, if_neg z2]
  · rw [y3 k hk]
    by_cases z : k < q
    · rw [if_pos z, if_pos (by omega)]
    · by_cases z2 : k < q + n
      · rw [if_neg z, if_pos z2, hf k (by omega) z2]
      · rw [if_neg z, if_neg z2]
  · rw [y4 u hu, c_ps_out (fun k h1 h2 _ => by show (c_f C b S k).1 = 0; rw [hf k h1 h2])]
theorem x_PU.of {P C : CF} {L : LH} {I : MI} {t : Nat} (h : x_TL P C L I t) (hf : I (2 + 3 * t) 3 = nI 1) : x_PU C L I t := by
  rcases h.2 with z | z
  · exact z.1
  · rw [z.1] at hf
    exact absurd hf (by decide)
/-- both teams have been read -/
def x_D (P C : CF) (Q : Nat → Int32) (L : LH) (I : MI) : Prop := x_W P Q L I ∧ x_C P C L I ∧ I 2 3 = nI 1 ∧ I 5 3 = nI 1
section Bt
variable {P C : CF} {Q : Nat → Int32} {L : LH} {I : MI}
theorem x_D.pu (h : x_D P C Q L I) {t : Nat} (ht : t < 2) : x_PU C L I t := by
  rcases (show t = 0 ∨ t = 1 by omega) with q | q <;> subst q
  · exact x_PU.of (h.2.1.tl (by decide)) h.2.2.1
  · exact x_PU.of (h.2.1.tl (by decide)) h.2.2.2
theorem x_D.xf (h : x_D P C Q L I) : x_XF C L I := ⟨h.1.1, fun _ ht => h.pu ht, x_EV.of h.1 h.2.1.1 h.2.1.2.2.2.1, h.2.1.2.2.2.2⟩
theorem x_C.f {I' : MI} (hS : x_Sh L) (h : x_C P C L I) (e : ∀ a x, (a = 2 ∨ a = 5 ∨ a = 9 ∨ a = 12 ∨ a = 4 ∨ a = 7 ∨ a = 11 ∨ a = 14 ∨ (a = 0 ∧ (x = 16 ∨ x = 17)) ∨ (113 ≤ a ∧ lh_k L a = 6)) → I' a x = I a x) : x_C P C L I' := by
  have tl : ∀ t, t < 2 → x_TL P C L I' t := fun t ht => (h.tl ht).go hS (fun x => e _ x (by omega)) (e _ 2 (by omega)) (fun _ _ => ⟨rfl, rfl⟩) rfl (fun _ _ _ _ _ => rfl) (fun p x hp hk => ⟨rfl, e p x (by omega)⟩)
  have cl : ∀ u, u < 2 → x_CL P C I' u := fun u hu => (h.cl hu).f (fun x => e _ x (by omega)) (fun x => e _ x (by omega))
  refine ⟨h.1, ⟨tl 0 (by decide), tl 1 (by decide)⟩, ⟨cl 0 (by decide), cl 1 (by decide)⟩, fun k hk => ?_, fun k hk => ?_⟩
  · rw [e 0 16 (by omega)]; exact h.2.2.2.1 k hk
  · rw [e 0 17 (by omega)]; exact h.2.2.2.2 k hk
theorem x_D.f {I' : MI} (h : x_D P C Q L I) (e : m_f x_v I I') : x_D P C Q L I' :=
  ⟨h.1.f (fun a x q => e a x (by omega)), h.2.1.f h.1.1 (fun a x q => e a x (by omega)), (e 2 3 (by omega)).trans h.2.2.1, (e 5 3 (by omega)).trans h.2.2.2⟩
theorem x_callBy (hB : p_B P) (hW : x_W P Q L I) (hC : x_C P C L I) (hz : lh_z L + x_po I + 50 < fw_RO) {t b : Nat} (ht : t < 2) (hb : b < 24) : ∃ L' I', x_ev (lh_z L) (f_X0_callBy 0 (nI t) (nI b) (lh_wI L I)) (nI (C 4 (24 * t + b))) (lh_wI L' I') ∧ x_W P Q L' I' ∧ x_C P C L' I' ∧ x_Z x_vr L I L' I' ∧ I' (9 + 3 * t) 3 = nI 1 := by
  obtain ⟨L', I', r1, r2, r3, r4, r5⟩ := x_rC hB hW hC hz ht
  refine ⟨L', I', ?_, r2, r3, r4, r5⟩
  have hS := hW.1
  have hS' := r2.1
  have hck := hS.ck ht
  have hck' := hS'.ck ht
  have hval : I' (11 + 3 * t) b = nI (C 4 (24 * t + b)) := by
    rcases r3.cl ht with z | z
    · exact z.2.1 b hb
    · rw [z.1] at r5
      exact absurd r5 (by decide)
  unfold f_X0_callBy
  rw [x_g2 hS, x_nn, x_rqC hS ht, x_nn, show ∀ {β : Type} (k : Rs β), fw_is 3 (lh_wI L I) (9 + 3 * t) k = k from fun k => if_pos hck.1]
  refine x_ev.cl r1 (x_ev.of ?_ rfl)
  rw [x_g2 hS', x_nn, x_rqC hS' ht, x_nn, show ∀ {β : Type} (k : Option Nat → Rs β), fw_gR 3 (lh_wI L' I') (9 + 3 * t) 5 k = k (lh_R L' (9 + 3 * t) 5) from fun k => if_pos hck'.1, hck'.2.2.1, x_nn, x_rdA hck'.2.2.2.1 hck'.2.2.2.2 hb (by decide), show 9 + 3 * t + 2 = 11 + 3 * t by omega, hval]
/-- a team pulls -/
theorem x_34 {rec : Nat → Int32 → Int32 → Int32 → LH → Rs Unit} (hB : c_B C) {b t w : Nat} (hb : b < 24) (ht : t < 2) {S : CF} (hS1 : ∀ k, S 1 k ≤ C 3 k) (hS2 : ∀ k, S 2 k ≤ 1000) (hwon : ¬ c_won (S 0 0)) (hw : w = c_we C b S) (hw9 : w ≤ 9) {x2 : Int32} : ∀ (m i n : Nat), i + m = C 0 t → m < n → ∀ I : MI, x_D P C Q L I → x_LM C I → I 0 7 = nI w → x_Y C b S (8 * t + i) I →
    ∃ I', f_X0_tugs_34 rec n 0 (nI b) x2 (nI t) (nI (c_ca C b t)) (nI i) (lh_wI L I) = rec 0 (nI b) x2 (nI (t + 1)) (lh_wI L I') ∧ m_f (fun j _ => j = 17 ∨ j = 18 ∨ j = 45 + b ∨ j = 20 + b) I I' ∧ x_Y C b S (8 * t + C 0 t) I' := by
  intro m
  have h8 := hB.1 t
  induction m with
  | zero =>
    intro i n hi hn I hD hL h7 hY
    obtain ⟨n, rfl⟩ : ∃ q, n = q + 1 := ⟨n - 1, by omega⟩
    obtain rfl : i = C 0 t := by omega
    have hS := hD.1.1
    have hpu := hD.pu ht
    refine ⟨I, ?_, m_f.r I, hY⟩
    unfold f_X0_tugs_34
    rw [x_g1 hS, x_nn, x_rqT hS ht, x_nn, x_isT hS ht, x_many (C := C) hS ht hpu.1, x_cl, hpu.2.1, if_pos (nI_le (Nat.le_refl _) (by omega)), nI_add]
  | succ m ih =>
    intro i n hi hn I hD hL h7 hY
    obtain ⟨n, rfl⟩ : ∃ q, n = q + 1 := ⟨n - 1, by omega⟩
    have hS := hD.1.1
    have hpu := hD.pu ht
    have hX := hD.xf
    have hk16 : 8 * t + i < 16 := by omega
    have hdiv : (8 * t + i) / 8 = t := by omega
    have hth : c_th C (8 * t + i) := ⟨hk16, by rw [hdiv]; omega⟩
    obtain ⟨y1, y2, y3, y4⟩ := hY
    have hcall : c_ca C b t ≤ 2 := by
      unfold c_ca
      split
      · omega
      · exact hB.2.2.1 _
    have hcf : c_f C b S (8 * t + i) = c_fo C b (8 * t + i) (c_ca C b t) w (S 1 (8 * t + i)) := by
      unfold c_f
      rw [if_neg hwon, hdiv, hw]
    have hfo := x_force hB hX hL (b := b) (call := c_ca C b t) (br := S 1 (8 * t + i)) (w := w) (d := S 2 (8 * t + i)) hth hb (by rw [y1 _ hth, if_neg (by omega)]) (hS1 _) hcall h7 hw9 (by rw [y2 _ hk16, if_neg (by omega), Nat.add_zero])
    rw [← hcf] at hfo
    have hle := c_fo_le hB (b := b) (call := c_ca C b t) (wet := w) (hS1 (8 * t + i))
    rw [← hcf] at hle
    generalize hF : c_f C b S (8 * t + i) = F at hfo hle
    unfold f_X0_tugs_34
    rw [x_g1 hS, x_nn, x_rqT hS ht, x_nn, x_isT hS ht, x_many (C := C) hS ht hpu.1, x_cl, hpu.2.1, if_neg (nI_ge (by omega) (by omega)), x_g13 hS, x_nn, x_rqF hS hb, x_is1 hS, pk_mul, nI_add, hfo, x_cl, x_nn, x_wrF hS hb hk16, x_g12 hS, x_nn, x_rqR hS hb, x_nn, nI_add, x_rdR hS hb (by omega), x_g13 hS, x_nn, x_rqF hS hb, x_nn, x_rdF hS hb hk16, x_wrR hS hb (by omega), nI_add]
    have v20 : fw_u2 (fw_u2 (fw_u2 I 17 (8 * t + i) (nI F.2)) 18 (8 * t + i) (nI (S 2 (8 * t + i) + F.1))) (45 + b) (8 * t + i) (nI F.1) (20 + b) (1 + t) = nI (c_ps (fun j => (c_f C b S j).1) t (8 * t + i)) := by
      rw [fw_u2_ne _ _ (by omega), fw_u2_ne _ _ (by omega), fw_u2_ne _ _ (by omega)]
      exact y4 t ht
    rw [v20, fw_u2_self, nI_add]
    have f1 : m_f (fun j _ => j = 17 ∨ j = 18 ∨ j = 45 + b ∨ j = 20 + b) I (fw_u2 (fw_u2 (fw_u2 (fw_u2 I 17 (8 * t + i) (nI F.2)) 18 (8 * t + i) (nI (S 2 (8 * t + i) + F.1))) (45 + b) (8 * t + i) (nI F.1)) (20 + b) (1 + t) (nI (c_ps (fun j => (c_f C b S j).1) t (8 * t + i) + F.1))) := ((((m_f.r I).w (Or.inl rfl)).w (Or.inr (Or.inl rfl))).w (Or.inr (Or.inr (Or.inl rfl)))).w (Or.inr (Or.inr (Or.inr rfl)))
    have hY1 : x_Y C b S (8 * t + (i + 1)) (fw_u2 (fw_u2 (fw_u2 (fw_u2 I 17 (8 * t + i) (nI F.2)) 18 (8 * t + i) (nI (S 2 (8 * t + i) + F.1))) (45 + b) (8 * t + i) (nI F.1)) (20 + b) (1 + t) (nI (c_ps (fun j => (c_f C b S j).1) t (8 * t + i) + F.1))) := by
      refine ⟨fun k hk => ?_, fun k hk => ?_, fun k hk => ?_, fun u hu => ?_⟩
      · rw [fw_u2_ne _ _ (by omega), fw_u2_ne _ _ (by omega), fw_u2_ne _ _ (by omega)]
        by_cases z : k = 8 * t + i
        · subst z
          rw [fw_u2_self, if_pos (by omega), hF]
        · rw [fw_u2_ne _ _ (by omega), y1 k hk]
          by_cases z2 : k < 8 * t + i
          · rw [if_pos z2, if_pos (by omega)]
          · rw [if_neg z2, if_neg (by omega)]
      · rw [fw_u2_ne _ _ (by omega), fw_u2_ne _ _ (by omega)]
        by_cases z : k = 8 * t + i
        · subst z
          rw [fw_u2_self, if_pos (by omega), hF]
        · rw [fw_u2_ne _ _ (by omega), fw_u2_ne _ _ (by omega), y2 k hk]
          by_cases z2 : k < 8 * t + i
          · rw [if_pos z2, if_pos (by omega)]
          · rw [if_neg z2, if_neg (by omega)]
      · rw [fw_u2_ne _ _ (by omega)]
        by_cases z : k = 8 * t + i
        · subst z
          rw [fw_u2_self, if_pos (by omega), hF]
        · rw [fw_u2_ne _ _ (by omega), fw_u2_ne _ _ (by omega), fw_u2_ne _ _ (by omega), y3 k hk]
          by_cases z2 : k < 8 * t + i
          · rw [if_pos z2, if_pos (by omega)]
          · rw [if_neg z2, if_neg (by omega)]
      · show _ = nI (c_ps _ u (8 * t + i) + (if (8 * t + i) / 8 = u then (c_f C b S (8 * t + i)).1 else 0))
        rw [hF, hdiv]
        by_cases z : t = u
        · subst z
          rw [fw_u2_self, if_pos rfl]
        · rw [fw_u2_ne _ _ (by omega), fw_u2_ne _ _ (by omega), fw_u2_ne _ _ (by omega), fw_u2_ne _ _ (by omega), y4 u hu, if_neg z, Nat.add_zero]
    have f1v : m_f x_v I (fw_u2 (fw_u2 (fw_u2 (fw_u2 I 17 (8 * t + i) (nI F.2)) 18 (8 * t + i) (nI (S 2 (8 * t + i) + F.1))) (45 + b) (8 * t + i) (nI F.1)) (20 + b) (1 + t) (nI (c_ps (fun j => (c_f C b S j).1) t (8 * t + i) + F.1))) := f1.m (fun j x q => by omega)
    obtain ⟨I', r1, r2, r3⟩ := ih (i + 1) n (by omega) (by omega) _ (hD.f f1v) (fun k hk => by rw [f1 94 _ (by omega)]; exact hL k hk) (by rw [f1 0 7 (by omega)]; exact h7) hY1
    exact ⟨I', r1, f1.t r2, r3⟩
theorem x_isWon (hS : x_Sh L) {r : Nat} (hr : r ≤ 24) (h : I 0 6 = nI r) : f_X0_isWon 0 (lh_wI L I) = some (nI (if c_won r then 1 else 0), lh_wI L I, 0, 0) := by
  unfold f_X0_isWon f_X0_isWon_17
  rw [x_gI hS, h, i_le (by decide) (by omega)]
  by_cases h1 : 22 ≤ r
  · rw [if_pos h1, if_pos (Or.inl h1)]
  · rw [if_neg h1, x_gI hS, h, i_lt (by decide) (by omega)]
    by_cases h2 : 2 < r
    · rw [if_pos h2, if_neg (show ¬ c_won r by omega)]
    · rw [if_neg h2, if_pos (show c_won r by omega)]
/-- both have pulled: the rope -/
theorem x_rope {n b r s0 s1 lv : Nat} {x2 : Int32} (hS : x_Sh L) (hb : b < 24) (hr : ¬ c_won r) (h6 : I 0 6 = nI r) (h1 : I (20 + b) 1 = nI s0) (h2 : I (20 + b) 2 = nI s1) (h9 : I 0 9 = nI lv) (h8 : I 0 8 = -nI 1) (hs0 : s0 ≤ 1000) (hs1 : s1 ≤ 1000) (hlv : lv ≤ 1000) :
    f_X0_tugs_10 (n + 1) 0 (nI b) x2 (nI 2) (lh_wI L I) = some ((), lh_wI L (fw_u2 (fw_u2 (fw_u2 I 0 6 (nI (c_go r s0 s1))) 0 9 (nI (lv + (if s0 = s1 then 1 else 0)))) 0 8 (if c_won (c_go r s0 s1) then nI b else -nI 1)), 0, 0) := by
  have hgo := c_go_le (s0 := s0) (s1 := s1) hr
  have h174 : ∀ (J : MI) (v : Nat), J 0 6 = nI (c_go r s0 s1) → J 0 8 = -nI 1 → f_X0_tugs_174 0 (nI b) (nI v) (nI lv) (some 0) (lh_wI L J) = some ((), lh_wI L (fw_u2 (fw_u2 J 0 9 (nI (lv + v))) 0 8 (if c_won (c_go r s0 s1) then nI b else -nI 1)), 0, 0) := by
    intro J v hJ hJ8
    unfold f_X0_tugs_174
    rw [x_nn, x_pI hS, nI_add, x_is1 hS, x_isWon hS hgo (by rw [fw_u2_ne _ _ (by omega)]; exact hJ), x_cl]
    by_cases h : c_won (c_go r s0 s1)
    · rw [if_pos h, if_neg (show ¬ nI 1 = 0 by decide), x_pI hS, if_pos h]
    · rw [if_neg h, if_pos nI_0, if_neg h, fw_u2_id (fw_u2 J 0 9 (nI (lv + v))) (j := 0) (x := 8) (v := -nI 1) (by rw [fw_u2_ne _ _ (by omega)]; exact hJ8)]
  have h156 : ∀ (x y : Int32), (x = 0 ↔ s0 = s1) → nI r + y = nI (c_go r s0 s1) → f_X0_tugs_156 0 (nI b) x y (nI r) (some 0) (lh_wI L I) = some ((), lh_wI L (fw_u2 (fw_u2 (fw_u2 I 0 6 (nI (c_go r s0 s1))) 0 9 (nI (lv + (if s0 = s1 then 1 else 0)))) 0 8 (if c_won (c_go r s0 s1) then nI b else -nI 1)), 0, 0) := by
    intro x y hx hy
    unfold f_X0_tugs_156
    rw [x_nn, x_pI hS, hy, x_gI hS, fw_u2_ne _ _ (by omega), h9]
    by_cases h : s0 = s1
    · rw [if_pos (hx.mpr h), h174 _ _ (fw_u2_self _ _ _ _) (by rw [fw_u2_ne _ _ (by omega)]; exact h8), if_pos h]
    · rw [if_neg (fun q => h (hx.mp q)), h174 _ _ (fw_u2_self _ _ _ _) (by rw [fw_u2_ne _ _ (by omega)]; exact h8), if_neg h]
  unfold f_X0_tugs_10
  rw [if_pos (nI_le (Nat.le_refl _) (by decide)), x_g12 hS, x_nn, x_rqR hS hb, x_nn, x_rdR hS hb (by decide), x_g12 hS, x_nn, x_rqR hS hb, x_nn, x_rdR hS hb (by decide), x_gI hS, h1, h2, h6]
  by_cases hle : s1 ≤ s0
  · rw [pk_sub hle, i_le0 (by omega)]
    have habs : fw_abs (nI (s0 - s1)) = nI (s0 - s1) := if_pos (nI_pos' (by omega))
    rw [habs, pk_div (by omega) (by decide) (by decide), x_min (by omega) (by decide)]
    by_cases h0 : s0 - s1 = 0
    · rw [if_pos h0, h156 _ _ (by rw [nI_z (by omega)]; omega) ?_]
      rw [h0]
      unfold c_go
      rw [if_neg (by omega), show s1 - s0 = 0 by omega]
      exact nI_addn (by omega)
    · rw [if_neg h0, h156 _ _ (by rw [nI_z (by omega)]; omega) ?_]
      rw [nI_add]
      unfold c_go
      rw [if_pos (by omega)]
  · have e := nI_subs (show s0 ≤ s1 by omega)
    have hneg : nI s0 - nI s1 < 0 := pk_sneg (by omega) (by omega)
    have hle0 : nI s0 - nI s1 ≤ 0 := Int32.le_of_lt hneg
    have hn0 : ¬ 0 ≤ nI s0 - nI s1 := by rw [Int32.not_le]; exact hneg
    have habs : fw_abs (nI s0 - nI s1) = nI (s1 - s0) := by
      unfold fw_abs
      rw [if_neg hn0, e, Int32.zero_sub, Int32.neg_neg]
    rw [if_pos hle0, habs, pk_div (by omega) (by decide) (by decide), x_min (by omega) (by decide), h156 _ _ ⟨fun q => absurd (by rw [q]; decide) hn0, fun q => by omega⟩ ?_]
    rw [nI_addn (by omega)]
    unfold c_go
    rw [if_neg (by omega)]
end Bt
