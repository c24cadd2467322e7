set_option maxRecDepth 100000
/-! The model's beats, one after another. -/
theorem m_pullsOne {C : CF} (hC : c_B C) {I : MI} (hM : m_CM C I) (hL : m_LM C I) {b k br d sm w : Nat} (hk : c_he C k) (hb24 : b < 24) (hbr : I 15 k = nI br) (hb : br ≤ C 3 k) (h16 : I 16 k = nI d) (h18 : I 18 (k / 8) = nI sm) (h19 : I 0 19 = nI (if c_dg C b = true then 1 else 0)) (h20 : bt (I 0 20) k = c_sl C b k) (hw : I 0 18 = nI w) (hw9 : w ≤ 9) (h17 : I 17 k = nI 0) :
    g_X5_pullsOne (nI k) (nI b) I = some ((), fw_u2 (fw_u2 (fw_u2 (fw_u2 I 15 k (nI (c_fo C b k (c_ca C b (k / 8)) w br).2)) 17 k (nI (c_fo C b k (c_ca C b (k / 8)) w br).1)) 16 k (nI (d + (c_fo C b k (c_ca C b (k / 8)) w br).1))) 18 (k / 8) (nI (sm + (c_fo C b k (c_ca C b (k / 8)) w br).1))) := by
  have hk16 := hk.1.1
  obtain ⟨e4, e5, e6⟩ := hM.2.1 k hk.1
  obtain ⟨b1, b2, b3⟩ := hC.2.1 k
  have h91 : ∀ (J : MI) (f : Nat), J 16 k = nI d → J 18 (k / 8) = nI sm → g_X5_pullsOne_91 (nI k) (nI f) (nI k) J = some ((), fw_u2 (fw_u2 (fw_u2 J 17 k (nI f)) 16 k (nI (d + f))) 18 (k / 8) (nI (sm + f))) := by
    intro J f j1 j2
    unfold g_X5_pullsOne_91
    rw [mw_nI hk16 (by decide), md_nI hk16 (by decide), md_nI hk16 (by decide), mw_nI hk16 (by decide), pk_div (by omega) (by decide) (by decide), md_nI (by omega) (by decide), md_nI hk16 (by decide), mw_nI (by omega) (by decide)]
    simp [fw_u2_at, j1, j2, nI_add]
  have h48 : ∀ (J : MI) (f : Nat), J 16 k = nI d → J 18 (k / 8) = nI sm → J 4 k = nI (C 1 k) → J 0 18 = nI w → f ≤ 1000 → g_X5_pullsOne_48 (nI k) (nI f) J = some ((), fw_u2 (fw_u2 (fw_u2 J 17 k (nI (f - (if C 1 k = 2 then 0 else w)))) 16 k (nI (d + (f - (if C 1 k = 2 then 0 else w))))) 18 (k / 8) (nI (sm + (f - (if C 1 k = 2 then 0 else w))))) := by
    intro J f j1 j2 j3 j4 hf
    have h68 : ∀ m : Nat, m ≤ 9 → g_X5_pullsOne_68 (nI k) (nI f) (nI m) J = some ((), fw_u2 (fw_u2 (fw_u2 J 17 k (nI (f - m))) 16 k (nI (d + (f - m)))) 18 (k / 8) (nI (sm + (f - m)))) := by
      intro m hm
      unfold g_X5_pullsOne_68
      rw [i_le (by omega) (by omega)]
      by_cases h : f ≤ m
      · rw [if_pos h, h91 J 0 j1 j2, show f - m = 0 by omega]
      · rw [if_neg h, pk_sub (by omega), h91 J _ j1 j2]
    unfold g_X5_pullsOne_48
    rw [md_nI (by omega) (by decide), j3, i_eq (by omega) (by decide)]
    by_cases h : C 1 k = 2
    · rw [if_pos h, h68 0 (by omega), if_pos h]
    · rw [if_neg h, mg_e, j4, h68 w hw9, if_neg h]
  have h26 : ∀ call : Nat, call ≤ 2 → g_X5_pullsOne_26 (nI k) (nI call) I = some ((), fw_u2 (fw_u2 (fw_u2 (fw_u2 I 15 k (nI (c_fo C b k call w br).2)) 17 k (nI (c_fo C b k call w br).1)) 16 k (nI (d + (c_fo C b k call w br).1))) 18 (k / 8) (nI (sm + (c_fo C b k call w br).1))) := by
    intro call hc
    unfold g_X5_pullsOne_26 c_fo
    rw [mg_e, m_isIn _ (by omega), mc_e, h20]
    by_cases h : c_sl C b k = true
    · rw [if_pos h, if_neg (by decide), if_neg (fun q => by rw [h] at q; cases q.2), h48 I 0 h16 h18 e4 hw (by omega), fw_u2_id I hbr, Nat.zero_sub]
    · have h' : c_sl C b k = false := by simpa using h
      rw [if_neg h, if_pos nI_0, m_strength hC hM hL hk hbr hb hc, mc_e, if_pos ⟨hk, h'⟩]
      have := (c_pw_le hC (call := call) hb).1
      rw [h48 _ _ (by rw [fw_u2_ne _ _ (by omega)]; exact h16) (by rw [fw_u2_ne _ _ (by omega)]; exact h18) (by rw [fw_u2_ne _ _ (by omega)]; exact e4) (by rw [fw_u2_ne _ _ (by omega)]; exact hw) (by omega)]
  unfold g_X5_pullsOne c_ca
  rw [mg_e, h19]
  by_cases h : c_dg C b = true
  · rw [if_pos h, if_pos rfl, if_pos h, h26 0 (by omega)]
  · have h4 := hC.2.2.1 (24 * (k / 8) + b)
    rw [if_neg h, if_neg (by decide), pk_div (by omega) (by decide) (by decide), pk_mul, nI_add, md_nI (by omega) (by decide), hM.2.2.1 _ (by omega), if_neg h, h26 _ h4]
theorem m_goes {I : MI} {b r s0 s1 lv : Nat} (hr : ¬ c_won r) (h21 : I 0 21 = nI r) (h0 : I 18 0 = nI s0) (h1 : I 18 1 = nI s1) (hl : I 0 24 = nI lv) (hs0 : s0 ≤ 1000) (hs1 : s1 ≤ 1000) (hlv : lv ≤ 1000) :
    g_X5_goes (nI b) I = some ((), fw_u2 (fw_u2 (fw_u2 (fw_u2 I 0 24 (nI (lv + (if s0 = s1 then 1 else 0)))) 0 21 (nI (c_go r s0 s1))) 0 22 (v_wi (c_go r s0 s1))) 0 23 (if c_won (c_go r s0 s1) then nI b else -nI 1)) := by
  have hgo := c_go_le (s0 := s0) (s1 := s1) hr
  have h71 : ∀ (J : MI) (y : Int32), nI r + y = nI (c_go r s0 s1) → g_X5_goes_71 (nI b) y (nI r) J = some ((), fw_u2 (fw_u2 (fw_u2 J 0 21 (nI (c_go r s0 s1))) 0 22 (v_wi (c_go r s0 s1))) 0 23 (if c_won (c_go r s0 s1) then nI b else -nI 1)) := by
    intro J y hy
    have h102 : ∀ (K : MI) (z : Int32), g_X5_goes_102 (nI b) z K = some ((), fw_u2 (fw_u2 K 0 22 z) 0 23 (if z = -nI 1 then -nI 1 else nI b)) := by
      intro K z
      unfold g_X5_goes_102
      rw [mp_e, mg_e, fw_u2_self]
      by_cases h : z = -nI 1
      · rw [if_pos h, mp_e, if_pos h]
      · rw [if_neg h, mp_e, if_neg h]
    unfold g_X5_goes_71
    rw [hy, mp_e, mg_e, fw_u2_self, i_lt (by omega) (by decide)]
    unfold v_wi
    by_cases ha : c_go r s0 s1 < 22
    · rw [if_pos ha, mg_e, fw_u2_self, i_lt (by decide) (by omega), if_neg (show ¬ 22 ≤ c_go r s0 s1 by omega)]
      by_cases hb : 2 < c_go r s0 s1
      · rw [if_pos hb, h102, if_pos rfl, if_neg (show ¬ c_go r s0 s1 ≤ 2 by omega), if_neg (show ¬ c_won (c_go r s0 s1) by omega)]
      · rw [if_neg hb, h102, if_neg (show ¬ nI 1 = -nI 1 by decide), if_pos (show c_go r s0 s1 ≤ 2 by omega), if_pos (show c_won (c_go r s0 s1) by omega)]
    · rw [if_neg ha, h102, if_neg (show ¬ nI 0 = -nI 1 by decide), if_pos (show 22 ≤ c_go r s0 s1 by omega), if_pos (show c_won (c_go r s0 s1) by omega)]
  have h37 : ∀ (x : Int32) (f : Nat), ((0 ≤ x → nI r + nI f = nI (c_go r s0 s1)) ∧ (¬ 0 ≤ x → nI r + -nI f = nI (c_go r s0 s1))) → (x = 0 ↔ s0 = s1) → g_X5_goes_37 (nI b) x (nI f) I = some ((), fw_u2 (fw_u2 (fw_u2 (fw_u2 I 0 24 (nI (lv + (if s0 = s1 then 1 else 0)))) 0 21 (nI (c_go r s0 s1))) 0 22 (v_wi (c_go r s0 s1))) 0 23 (if c_won (c_go r s0 s1) then nI b else -nI 1)) := by
    intro x f hx hz
    have h52 : ∀ v : Nat, g_X5_goes_52 (nI b) x (nI f) (nI v) (nI lv) I = some ((), fw_u2 (fw_u2 (fw_u2 (fw_u2 I 0 24 (nI (lv + v))) 0 21 (nI (c_go r s0 s1))) 0 22 (v_wi (c_go r s0 s1))) 0 23 (if c_won (c_go r s0 s1) then nI b else -nI 1)) := by
      intro v
      unfold g_X5_goes_52
      rw [mp_e, mg_e, fw_u2_ne _ _ (by decide), h21, nI_add]
      by_cases h : 0 ≤ x
      · rw [if_pos h, h71 _ _ (hx.1 h)]
      · rw [if_neg h, h71 _ _ (hx.2 h)]
    unfold g_X5_goes_37
    rw [mg_e, hl]
    by_cases h : x = 0
    · rw [if_pos h, h52, if_pos (hz.mp h)]
    · rw [if_neg h, h52, if_neg (fun q => h (hz.mpr q))]
  have h24 : ∀ (x : Int32) (f : Nat), f ≤ 1000 → ((0 ≤ x → nI r + nI (min (f / 3) 3) = nI (c_go r s0 s1)) ∧ (¬ 0 ≤ x → nI r + -nI (min (f / 3) 3) = nI (c_go r s0 s1))) → (x = 0 ↔ s0 = s1) → g_X5_goes_24 (nI b) x (nI f) I = some ((), fw_u2 (fw_u2 (fw_u2 (fw_u2 I 0 24 (nI (lv + (if s0 = s1 then 1 else 0)))) 0 21 (nI (c_go r s0 s1))) 0 22 (v_wi (c_go r s0 s1))) 0 23 (if c_won (c_go r s0 s1) then nI b else -nI 1)) := by
    intro x f hf hx hz
    unfold g_X5_goes_24
    rw [pk_div (by omega) (by decide) (by decide), i_le (by omega) (by decide)]
    by_cases h : f / 3 ≤ 3
    · rw [Nat.min_eq_left h] at hx
      rw [if_pos h, h37 _ _ hx hz]
    · rw [Nat.min_eq_right (by omega)] at hx
      rw [if_neg h, h37 _ _ hx hz]
  unfold g_X5_goes
  rw [md_nI (by decide) (by decide), md_nI (by decide) (by decide), h0, h1]
  by_cases h : s1 ≤ s0
  · rw [pk_sub h, if_pos (nI_pos' (by omega)), h24 _ _ (by omega) ⟨fun _ => ?_, fun q => absurd (nI_pos' (by omega)) q⟩ (by rw [nI_z (by omega)]; omega)]
    rw [nI_add]
    unfold c_go
    by_cases h2 : s1 < s0
    · rw [if_pos h2]
    · rw [if_neg h2, show s0 - s1 = 0 by omega, show s1 - s0 = 0 by omega]
      rfl
  · have hneg : ¬ 0 ≤ nI s0 - nI s1 := by
      rw [Int32.not_le]
      exact pk_sneg (by omega) (by omega)
    rw [if_neg hneg]
    have e := nI_subs (show s0 ≤ s1 by omega)
    rw [show -(nI s0 - nI s1) = nI (s1 - s0) by rw [e, Int32.neg_neg], h24 _ _ (by omega) ⟨fun q => absurd q hneg, fun _ => ?_⟩ ⟨fun q => absurd (by rw [q]; decide) hneg, fun q => by omega⟩]
    unfold c_go
    rw [if_neg (by omega), nI_addn (by omega)]
theorem c_f_no {C : CF} {b : Nat} {S : CF} {k : Nat} (h : ¬ c_he C k) : c_f C b S k = (0, S 1 k) := by
  unfold c_f c_fo
  split
  · rfl
  · rw [if_neg (fun q => h q.1)]
theorem c_f_won {C : CF} {b : Nat} {S : CF} {k : Nat} (h : c_won (S 0 0)) : c_f C b S k = (0, S 1 k) := if_pos h
theorem v_wi_no {r : Nat} : v_wi r = -nI 1 ↔ ¬ c_won r := by
  unfold v_wi
  by_cases h : 22 ≤ r
  · rw [if_pos h]
    exact ⟨fun q => absurd q (by decide), fun q => absurd (Or.inl h) q⟩
  · rw [if_neg h]
    by_cases h2 : r ≤ 2
    · rw [if_pos h2]
      exact ⟨fun q => absurd q (by decide), fun q => absurd (Or.inr h2) q⟩
    · rw [if_neg h2]
      exact ⟨fun _ q => by omega, fun _ => rfl⟩
/-- what holds all through a beat -/
def m_X (C : CF) (b : Nat) (S : CF) (I : MI) : Prop := m_CM C I ∧ m_LM C I ∧ I 0 18 = nI (c_we C b S) ∧ I 0 19 = nI (if c_dg C b = true then 1 else 0) ∧ (∀ k, k < 16 → bt (I 0 20) k = c_sl C b k) ∧ I 0 21 = nI (S 0 0) ∧ I 0 22 = v_wi (S 0 0) ∧ I 0 23 = v_wb (S 0 2) ∧ I 0 24 = nI (S 0 3)
theorem m_v3_v {j x : Nat} (h : m_v3 j x) : m_v j x := Or.inl ⟨by have := h.1; omega, by have := h.2; omega⟩
theorem m_X.f {C : CF} {b : Nat} {S : CF} {I I' : MI} (h : m_X C b S I) (e : m_f m_v3 I I') : m_X C b S I' := by
  have e0 : ∀ x, I' 0 x = I 0 x := fun x => e 0 x (fun q => by have := q.1; omega)
  refine ⟨h.1.f (e.m fun j x => m_v3_v), h.2.1.f (fun t => e 14 t (fun q => by have := q.1; omega)), ?_⟩
  rw [e0, e0, e0, e0, e0, e0, e0]
  exact h.2.2
/-- the pullers before k have pulled -/
def m_Y (C : CF) (b : Nat) (S : CF) (k : Nat) (I : MI) : Prop := (∀ j, j < 16 → I 15 j = nI (if j < k then (c_f C b S j).2 else S 1 j)) ∧ (∀ j, j < k → I 17 j = nI (c_f C b S j).1) ∧ (∀ j, j < 16 → I 16 j = nI (S 2 j + (if j < k then (c_f C b S j).1 else 0))) ∧ (∀ t, t < 2 → I 18 t = nI (c_ps (fun j => (c_f C b S j).1) t k))
theorem m_Y_step {C : CF} {b : Nat} {S : CF} {k : Nat} {I : MI} (hk : k < 16) (h : m_Y C b S k I) (hf : c_f C b S k = (0, S 1 k)) : m_Y C b S (k + 1) (fw_u2 I 17 k (nI 0)) := by
  obtain ⟨y1, y2, y3, y4⟩ := h
  refine ⟨fun j hj => ?_, fun j hj => ?_, fun j hj => ?_, fun t ht => ?_⟩
  · rw [fw_u2_ne _ _ (by omega), y1 j hj]
    by_cases h1 : j < k
    · rw [if_pos h1, if_pos (by omega)]
    · rw [if_neg h1]
      by_cases h2 : j = k
      · subst h2; rw [if_pos (by omega), hf]
      · rw [if_neg (by omega)]
  · by_cases h2 : j = k
    · subst h2; rw [fw_u2_self, hf]
    · rw [fw_u2_ne _ _ (by omega), y2 j (by omega)]
  · rw [fw_u2_ne _ _ (by omega), y3 j hj]
    by_cases h1 : j < k
    · rw [if_pos h1, if_pos (by omega)]
    · rw [if_neg h1]
      by_cases h2 : j = k
      · subst h2; rw [if_pos (by omega), hf]
      · rw [if_neg (by omega)]
  · rw [fw_u2_ne _ _ (by omega), y4 t ht]
    show _ = nI (c_ps _ t k + (if k / 8 = t then (c_f C b S k).1 else 0))
    rw [hf]
    simp
theorem m_Y_pull {C : CF} {b : Nat} {S : CF} {k : Nat} {I : MI} (hk : k < 16) (h : m_Y C b S k I) : m_Y C b S (k + 1) (fw_u2 (fw_u2 (fw_u2 (fw_u2 I 15 k (nI (c_f C b S k).2)) 17 k (nI (c_f C b S k).1)) 16 k (nI (S 2 k + (c_f C b S k).1))) 18 (k / 8) (nI (c_ps (fun j => (c_f C b S j).1) (k / 8) k + (c_f C b S k).1))) := by
  obtain ⟨y1, y2, y3, y4⟩ := h
  refine ⟨fun j hj => ?_, fun j hj => ?_, fun j hj => ?_, fun t ht => ?_⟩
  · by_cases h2 : j = k
    · subst h2; simp [fw_u2_at]
    · have := y1 j hj
      simp only [fw_u2_at]
      simp [h2, this]
      by_cases h1 : j < k
      · rw [if_pos h1, if_pos (by omega)]
      · rw [if_neg h1, if_neg (by omega)]
  · by_cases h2 : j = k
    · subst h2; simp [fw_u2_at]
    · have := y2 j (by omega)
      simp [fw_u2_at, h2, this]
  · by_cases h2 : j = k
    · subst h2; simp [fw_u2_at]
    · have := y3 j hj
      simp only [fw_u2_at]
      simp [h2, this]
      by_cases h1 : j < k
      · rw [if_pos h1, if_pos (by omega)]
      · rw [if_neg h1, if_neg (by omega)]
  · show _ = nI (c_ps _ t k + (if k / 8 = t then (c_f C b S k).1 else 0))
    by_cases h2 : k / 8 = t
    · subst h2; simp [fw_u2_at]
    · have := y4 t ht
      simp [fw_u2_at, h2, this, Ne.symm h2, eq_comm]
theorem m_21 {C : CF} (hC : c_B C) {b : Nat} (hb : b < 24) {S : CF} (hS : ∀ k, S 1 k ≤ C 3 k) (hw : S 0 1 ≤ 9) : ∀ (m k n : Nat), k + m = 16 → m < n → ∀ I : MI, m_X C b S I → m_Y C b S k I →
    ∃ I', g_X5_goesBy_21 n (nI b) (nI k) I = (if c_won (S 0 0) then g_X5_goesBy_75 (nI b) I' else mc (g_X5_goes (nI b) I') fun _ I2 => g_X5_goesBy_75 (nI b) I2) ∧ m_f m_v3 I I' ∧ m_Y C b S 16 I' := by
  intro m
  induction m with
  | zero =>
    intro k n hk hn I hX hY
    obtain ⟨n, rfl⟩ : ∃ q, n = q + 1 := ⟨n - 1, by omega⟩
    obtain rfl : k = 16 := by omega
    refine ⟨I, ?_, m_f.r I, hY⟩
    unfold g_X5_goesBy_21
    rw [if_pos (by decide), mg_e, hX.2.2.2.2.2.2.1]
    by_cases h : c_won (S 0 0)
    · rw [if_neg (fun q => v_wi_no.mp q h), if_pos h]
    · rw [if_pos (v_wi_no.mpr h), if_neg h]
  | succ m ih =>
    intro k n hk hn I hX hY
    obtain ⟨n, rfl⟩ : ∃ q, n = q + 1 := ⟨n - 1, by omega⟩
    have hk16 : k < 16 := by omega
    have hf5 : m_f m_v3 I (fw_u2 I 17 k (nI 0)) := (m_f.r I).w (by simp [m_v, m_v1, m_v2, m_v3, m_v4])
    have hX5 := hX.f hf5
    have skip : c_f C b S k = (0, S 1 k) → ∃ I', g_X5_goesBy_56 (g_X5_goesBy_21 n) (nI b) (nI k) (fw_u2 I 17 k (nI 0)) = (if c_won (S 0 0) then g_X5_goesBy_75 (nI b) I' else mc (g_X5_goes (nI b) I') fun _ I2 => g_X5_goesBy_75 (nI b) I2) ∧ m_f m_v3 I I' ∧ m_Y C b S 16 I' := by
      intro hf
      unfold g_X5_goesBy_56
      rw [nI_add]
      obtain ⟨I', r1, r2, r3⟩ := ih (k + 1) n (by omega) (by omega) _ hX5 (m_Y_step hk16 hY hf)
      exact ⟨I', r1, hf5.t r2, r3⟩
    unfold g_X5_goesBy_21
    rw [if_neg (nI_ge (by omega) (by decide)), mw_nI hk16 (by decide), m_here hC hX5.1 hk16, mc_e]
    by_cases hh : c_he C k
    · rw [if_pos hh, if_neg (by decide), mg_e, hX5.2.2.2.2.2.2.1]
      by_cases hwon : c_won (S 0 0)
      · rw [if_neg (fun q => v_wi_no.mp q hwon)]
        exact skip (c_f_won hwon)
      · rw [if_pos (v_wi_no.mpr hwon)]
        have hcf : c_f C b S k = c_fo C b k (c_ca C b (k / 8)) (c_we C b S) (S 1 k) := if_neg hwon
        have hY5 : m_Y C b S k (fw_u2 I 17 k (nI 0)) := by
          obtain ⟨y1, y2, y3, y4⟩ := hY
          refine ⟨fun j hj => ?_, fun j hj => ?_, fun j hj => ?_, fun t ht => ?_⟩
          · rw [fw_u2_ne _ _ (by omega)]; exact y1 j hj
          · rw [fw_u2_ne _ _ (by omega)]; exact y2 j hj
          · rw [fw_u2_ne _ _ (by omega)]; exact y3 j hj
          · rw [fw_u2_ne _ _ (by omega)]; exact y4 t ht
        have hp := m_pullsOne hC hX5.1 hX5.2.1 (b := b) (k := k) (br := S 1 k) (d := S 2 k) (sm := c_ps (fun j => (c_f C b S j).1) (k / 8) k) (w := c_we C b S) hh hb (by rw [hY5.1 k hk16, if_neg (by omega)]) (hS k) (by rw [hY5.2.2.1 k hk16, if_neg (by omega), Nat.add_zero]) (hY5.2.2.2 (k / 8) (by omega)) hX5.2.2.2.1 (hX5.2.2.2.2.1 k hk16) hX5.2.2.1 (c_rn_le hw _) (fw_u2_self _ _ _ _)
        rw [← hcf] at hp
        rw [hp, mc_e]
        unfold g_X5_goesBy_56
        rw [nI_add]
        have hf6 := (((hf5.w (show m_v3 15 k by simp [m_v3]) (v := nI (c_f C b S k).2)).w (show m_v3 17 k by simp [m_v3]) (v := nI (c_f C b S k).1)).w (show m_v3 16 k by simp [m_v3]) (v := nI (S 2 k + (c_f C b S k).1))).w (show m_v3 18 (k / 8) by simp [m_v3]) (v := nI (c_ps (fun j => (c_f C b S j).1) (k / 8) k + (c_f C b S k).1))
        obtain ⟨I', r1, r2, r3⟩ := ih (k + 1) n (by omega) (by omega) _ (hX.f hf6) (m_Y_pull hk16 hY5)
        exact ⟨I', r1, hf6.t r2, r3⟩
    · rw [if_neg hh, if_pos nI_0]
      exact skip (c_f_no hh)
/-- behind the beat: the rows -/
theorem m_127 {b : Nat} (hb : b < 24) : ∀ (m k n : Nat), k + m = 16 → m < n → ∀ I : MI, ∃ I', g_X5_goesBy_127 n (nI b) (nI k) I = some ((), I') ∧ m_f (fun j x => (j = 22 ∨ j = 23) ∧ 16 * b + k ≤ x) I I' ∧ (∀ j, k ≤ j → j < 16 → I' 22 (16 * b + j) = I 17 j ∧ I' 23 (16 * b + j) = I 15 j) := by
  intro m
  induction m with
  | zero =>
    intro k n hk hn I
    obtain ⟨n, rfl⟩ : ∃ q, n = q + 1 := ⟨n - 1, by omega⟩
    obtain rfl : k = 16 := by omega
    refine ⟨I, ?_, m_f.r I, fun j h1 h2 => by omega⟩
    unfold g_X5_goesBy_127
    rw [if_pos (by decide)]
  | succ m ih =>
    intro k n hk hn I
    obtain ⟨n, rfl⟩ : ∃ q, n = q + 1 := ⟨n - 1, by omega⟩
    unfold g_X5_goesBy_127
    rw [if_neg (nI_ge (by omega) (by decide)), md_nI (by omega) (by decide), pk_mul, nI_add, mw_nI (by omega) (by decide), md_nI (by omega) (by decide), mw_nI (by omega) (by decide), nI_add, fw_u2_ne _ _ (by omega)]
    obtain ⟨I', r1, r2, r3⟩ := ih (k + 1) n (by omega) (by omega) (fw_u2 (fw_u2 I 22 (16 * b + k) (I 17 k)) 23 (16 * b + k) (I 15 k))
    refine ⟨I', r1, fun j x h => ?_, fun j h1 h2 => ?_⟩
    · rw [r2 j x (fun q => h ⟨q.1, by have := q.2; omega⟩), fw_u2_ne _ _ (fun q => h ⟨Or.inr q.1, by omega⟩), fw_u2_ne _ _ (fun q => h ⟨Or.inl q.1, by omega⟩)]
    · by_cases hj : j = k
      · subst hj
        rw [r2 22 _ (by omega), r2 23 _ (by omega), fw_u2_self, fw_u2_ne _ _ (by omega), fw_u2_self]
        exact ⟨rfl, rfl⟩
      · have := r3 j (by omega) h2
        rw [this.1, this.2, fw_u2_ne _ _ (by omega), fw_u2_ne _ _ (by omega), fw_u2_ne _ _ (by omega), fw_u2_ne _ _ (by omega)]
        exact ⟨rfl, rfl⟩
/-- the state between beats; what the beats before b have left -/
def m_S (S : CF) (I : MI) : Prop := I 0 21 = nI (S 0 0) ∧ I 0 18 = nI (S 0 1) ∧ I 0 22 = v_wi (S 0 0) ∧ I 0 23 = v_wb (S 0 2) ∧ I 0 24 = nI (S 0 3) ∧ (∀ k, k < 16 → I 15 k = nI (S 1 k)) ∧ (∀ k, k < 16 → I 16 k = nI (S 2 k))
def m_H (C : CF) (b : Nat) (I : MI) : Prop := ∀ q, q < b → I 19 q = nI (c_rs C (q + 1) 0 0) ∧ I 20 q = nI (c_rs C (q + 1) 0 1) ∧ (∀ t, t < 2 → I 21 (2 * q + t) = nI (c_rs C (q + 1) 4 t)) ∧ (∀ k, k < 16 → I 22 (16 * q + k) = nI (c_rs C (q + 1) 3 k) ∧ I 23 (16 * q + k) = nI (c_rs C (q + 1) 1 k))
theorem m_75 {C : CF} {b : Nat} (hb : b < 24) {I : MI} (hH : m_H C b I) (hS : m_S (c_rs C (b + 1)) I) (h18 : ∀ t, t < 2 → I 18 t = nI (c_rs C (b + 1) 4 t)) (h17 : ∀ k, k < 16 → I 17 k = nI (c_rs C (b + 1) 3 k)) :
    ∃ I', g_X5_goesBy_75 (nI b) I = some ((), I') ∧ m_f (fun j _ => 19 ≤ j ∧ j ≤ 23) I I' ∧ m_S (c_rs C (b + 1)) I' ∧ m_H C (b + 1) I' := by
  obtain ⟨s1, s2, s3, s4, s5, s6, s7⟩ := hS
  unfold g_X5_goesBy_75
  rw [mg_e, mw_nI hb (by decide), mg_e, mw_nI hb (by decide), md_nI (by decide) (by decide), pk_mul, mw_nI (by omega) (by decide), md_nI (by decide) (by decide), nI_add, mw_nI (by omega) (by decide)]
  simp only [fw_u2_at]
  simp only [Nat.reduceEqDiff, false_and, if_false, s1, s2, h18 0 (by decide), h18 1 (by decide)]
  have hK := m_127 hb 16 0 fw_fuel rfl (by decide) (fw_u2 (fw_u2 (fw_u2 (fw_u2 I 19 b (nI (c_rs C (b + 1) 0 0))) 20 b (nI (c_rs C (b + 1) 0 1))) 21 (2 * b) (nI (c_rs C (b + 1) 4 0))) 21 (2 * b + 1) (nI (c_rs C (b + 1) 4 1)))
  obtain ⟨I', r1, r2, r3⟩ := hK
  have hf : m_f (fun j _ => 19 ≤ j ∧ j ≤ 23) I I' := by
    intro j x h
    rw [r2 j x (fun q => h (by omega)), fw_u2_ne _ _ (by omega), fw_u2_ne _ _ (by omega), fw_u2_ne _ _ (by omega), fw_u2_ne _ _ (by omega)]
  refine ⟨I', r1, hf, ?_, ?_⟩
  · have e : ∀ j x, j < 19 → I' j x = I j x := fun j x h => hf j x (by omega)
    refine ⟨?_, ?_, ?_, ?_, ?_, fun k hk => ?_, fun k hk => ?_⟩
    · rw [e _ _ (by decide)]; exact s1
    · rw [e _ _ (by decide)]; exact s2
    · rw [e _ _ (by decide)]; exact s3
    · rw [e _ _ (by decide)]; exact s4
    · rw [e _ _ (by decide)]; exact s5
    · rw [e _ _ (by decide)]; exact s6 k hk
    · rw [e _ _ (by decide)]; exact s7 k hk
  · intro q hq
    by_cases hqb : q = b
    · subst hqb
      refine ⟨?_, ?_, fun t ht => ?_, fun k hk => ?_⟩
      · rw [r2 19 _ (by omega)]; simp [fw_u2_at]
      · rw [r2 20 _ (by omega)]; simp [fw_u2_at]
      · rw [r2 21 _ (by omega)]
        rcases (show t = 0 ∨ t = 1 by omega) with h | h <;> subst h <;> simp [fw_u2_at]
      · have := r3 k (by omega) hk
        rw [this.1, this.2]
        refine ⟨?_, ?_⟩
        · rw [fw_u2_ne _ _ (by omega), fw_u2_ne _ _ (by omega), fw_u2_ne _ _ (by omega), fw_u2_ne _ _ (by omega)]; exact h17 k hk
        · rw [fw_u2_ne _ _ (by omega), fw_u2_ne _ _ (by omega), fw_u2_ne _ _ (by omega), fw_u2_ne _ _ (by omega)]; exact s6 k hk
    · obtain ⟨u1, u2, u3, u4⟩ := hH q (by omega)
      refine ⟨?_, ?_, fun t ht => ?_, fun k hk => ?_⟩
      · rw [r2 19 _ (by omega), fw_u2_ne _ _ (by omega), fw_u2_ne _ _ (by omega), fw_u2_ne _ _ (by omega), fw_u2_ne _ _ (by omega)]; exact u1
      · rw [r2 20 _ (by omega), fw_u2_ne _ _ (by omega), fw_u2_ne _ _ (by omega), fw_u2_ne _ _ (by omega), fw_u2_ne _ _ (by omega)]; exact u2
      · rw [r2 21 _ (by omega), fw_u2_ne _ _ (by omega), fw_u2_ne _ _ (by omega), fw_u2_ne _ _ (by omega), fw_u2_ne _ _ (by omega)]; exact u3 t ht
      · rw [r2 22 _ (by omega), fw_u2_ne _ _ (by omega), fw_u2_ne _ _ (by omega), fw_u2_ne _ _ (by omega), fw_u2_ne _ _ (by omega), r2 23 _ (by omega), fw_u2_ne _ _ (by omega), fw_u2_ne _ _ (by omega), fw_u2_ne _ _ (by omega), fw_u2_ne _ _ (by omega)]; exact u4 k hk
theorem m_goesBy {C : CF} (hC : c_B C) {b : Nat} (hb : b < 24) {I : MI} (hM : m_CM C I) (hL : m_LM C I) (hS : m_S (c_rs C b) I) (hH : m_H C b I) :
    ∃ I', g_X5_goesBy (nI b) I = some ((), I') ∧ m_f m_v I I' ∧ (∀ t, I' 14 t = I 14 t) ∧ m_S (c_rs C (b + 1)) I' ∧ m_H C (b + 1) I' := by
  obtain ⟨B1, B2, B3, B4, B5, B6, B7, B8⟩ := c_rs_SB hC b
  obtain ⟨s1, s2, s3, s4, s5, s6, s7⟩ := hS
  obtain ⟨I1, r1, f1, a18, a19, a20⟩ := m_befalls hC hb B2 hM s2
  have v1 : ∀ {j x : Nat}, m_v1 j x → m_v j x := fun q => Or.inr ⟨q.1, q.2.1, by have := q.2.2; omega⟩
  have g1 : ∀ j x, ¬ (j = 0 ∧ 18 ≤ x ∧ x ≤ 20) → I1 j x = I j x := f1
  have hX1 : m_X C b (c_rs C b) I1 := by
    refine ⟨hM.f (f1.m fun j x => v1), hL.f (fun t => g1 14 t (by omega)), a18, a19, a20, ?_, ?_, ?_, ?_⟩
    · rw [g1 _ _ (by omega)]; exact s1
    · rw [g1 _ _ (by omega)]; exact s3
    · rw [g1 _ _ (by omega)]; exact s4
    · rw [g1 _ _ (by omega)]; exact s5
  unfold g_X5_goesBy
  rw [r1, mc_e, mw_nI (by decide) (by decide), mw_nI (by decide) (by decide)]
  have f2 : m_f m_v3 I1 (fw_u2 (fw_u2 I1 18 0 (nI 0)) 18 1 (nI 0)) := ((m_f.r I1).w (by simp [m_v, m_v1, m_v2, m_v3, m_v4])).w (by simp [m_v, m_v1, m_v2, m_v3, m_v4])
  have hY : m_Y C b (c_rs C b) 0 (fw_u2 (fw_u2 I1 18 0 (nI 0)) 18 1 (nI 0)) := by
    refine ⟨fun j hj => ?_, fun j hj => by omega, fun j hj => ?_, fun t ht => ?_⟩
    · rw [fw_u2_ne _ _ (by omega), fw_u2_ne _ _ (by omega), g1 _ _ (by omega), s6 j hj, if_neg (by omega)]
    · rw [fw_u2_ne _ _ (by omega), fw_u2_ne _ _ (by omega), g1 _ _ (by omega), s7 j hj, if_neg (by omega), Nat.add_zero]
    · rcases (show t = 0 ∨ t = 1 by omega) with h | h <;> subst h <;> simp [fw_u2_at, c_ps]
  obtain ⟨I3, r3, f3, y1, y2, y3, y4⟩ := m_21 hC hb B3 B2 16 0 fw_fuel rfl (by decide) _ (hX1.f f2) hY
  have hX3 := (hX1.f f2).f f3
  rw [r3]
  obtain ⟨-, -, x18, x19, x20, x21, x22, x23, x24⟩ := hX3
  have hf3 : m_f m_v I I3 := ((f1.m fun j x => v1).t (f2.m fun j x => m_v3_v)).t (f3.m fun j x => m_v3_v)
  have h14 : ∀ t, I3 14 t = I 14 t := fun t => by rw [f3 14 t (by omega), f2 14 t (by omega), g1 14 t (by omega)]
  have hH3 : m_H C b I3 := by
    have e : ∀ j x, 19 ≤ j → I3 j x = I j x := fun j x h => by rw [f3 j x (by omega), f2 j x (by omega), g1 j x (by omega)]
    intro q hq
    obtain ⟨u1, u2, u3, u4⟩ := hH q hq
    refine ⟨?_, ?_, fun t ht => ?_, fun k hk => ?_⟩
    · rw [e _ _ (by decide)]; exact u1
    · rw [e _ _ (by decide)]; exact u2
    · rw [e _ _ (by decide)]; exact u3 t ht
    · rw [e _ _ (by decide), e _ _ (by decide)]; exact u4 k hk
  have z6 : ∀ k, k < 16 → I3 15 k = nI (c_rs C (b + 1) 1 k) := fun k hk => by rw [y1 k hk, if_pos hk]; rfl
  have z7 : ∀ k, k < 16 → I3 16 k = nI (c_rs C (b + 1) 2 k) := fun k hk => by rw [y3 k hk, if_pos hk]; rfl
  by_cases hwon : c_won (c_rs C b 0 0)
  · rw [if_pos hwon]
    have hr : c_r C b (c_rs C b) = c_rs C b 0 0 := if_pos hwon
    have hS3 : m_S (c_rs C (b + 1)) I3 := by
      refine ⟨?_, x18, ?_, ?_, ?_, z6, z7⟩
      · show _ = nI (c_r C b (c_rs C b)); rw [hr]; exact x21
      · show _ = v_wi (c_r C b (c_rs C b)); rw [hr]; exact x22
      · show _ = v_wb (if c_won (c_rs C b 0 0) then c_rs C b 0 2 else _); rw [if_pos hwon]; exact x23
      · show _ = nI (if c_won (c_rs C b 0 0) then c_rs C b 0 3 else _); rw [if_pos hwon]; exact x24
    obtain ⟨I', q1, q2, q3, q4⟩ := m_75 hb hH3 hS3 y4 (fun k hk => y2 k hk)
    exact ⟨I', q1, hf3.t (q2.m fun j x h => Or.inl ⟨by have := h.1; omega, h.2⟩), fun t => by rw [q2 14 t (by omega), h14], q3, q4⟩
  · rw [if_neg hwon]
    have hr : c_r C b (c_rs C b) = c_go (c_rs C b 0 0) (c_s C b (c_rs C b) 0) (c_s C b (c_rs C b) 1) := if_neg hwon
    have hg := m_goes (b := b) (s0 := c_s C b (c_rs C b) 0) (s1 := c_s C b (c_rs C b) 1) hwon x21 (y4 0 (by decide)) (y4 1 (by decide)) x24 (Nat.le_trans (c_s_le hC b 0) (by decide)) (Nat.le_trans (c_s_le hC b 1) (by decide)) (by omega)
    rw [hg, mc_e]
    have e0 : ∀ (j x : Nat), j ≠ 0 → (fw_u2 (fw_u2 (fw_u2 (fw_u2 I3 0 24 (nI (c_rs C b 0 3 + (if c_s C b (c_rs C b) 0 = c_s C b (c_rs C b) 1 then 1 else 0)))) 0 21 (nI (c_go (c_rs C b 0 0) (c_s C b (c_rs C b) 0) (c_s C b (c_rs C b) 1)))) 0 22 (v_wi (c_go (c_rs C b 0 0) (c_s C b (c_rs C b) 0) (c_s C b (c_rs C b) 1)))) 0 23 (if c_won (c_go (c_rs C b 0 0) (c_s C b (c_rs C b) 0) (c_s C b (c_rs C b) 1)) then nI b else -nI 1)) j x = I3 j x := fun j x h => by
      rw [fw_u2_ne _ _ (by omega), fw_u2_ne _ _ (by omega), fw_u2_ne _ _ (by omega), fw_u2_ne _ _ (by omega)]
    have f4 : m_f m_v I3 (fw_u2 (fw_u2 (fw_u2 (fw_u2 I3 0 24 (nI (c_rs C b 0 3 + (if c_s C b (c_rs C b) 0 = c_s C b (c_rs C b) 1 then 1 else 0)))) 0 21 (nI (c_go (c_rs C b 0 0) (c_s C b (c_rs C b) 0) (c_s C b (c_rs C b) 1)))) 0 22 (v_wi (c_go (c_rs C b 0 0) (c_s C b (c_rs C b) 0) (c_s C b (c_rs C b) 1)))) 0 23 (if c_won (c_go (c_rs C b 0 0) (c_s C b (c_rs C b) 0) (c_s C b (c_rs C b) 1)) then nI b else -nI 1)) := ((((m_f.r I3).w (by simp [m_v, m_v1, m_v2, m_v3, m_v4])).w (by simp [m_v, m_v1, m_v2, m_v3, m_v4])).w (by simp [m_v, m_v1, m_v2, m_v3, m_v4])).w (by simp [m_v, m_v1, m_v2, m_v3, m_v4])
    generalize hJ : (fw_u2 (fw_u2 (fw_u2 (fw_u2 I3 0 24 (nI (c_rs C b 0 3 + (if c_s C b (c_rs C b) 0 = c_s C b (c_rs C b) 1 then 1 else 0)))) 0 21 (nI (c_go (c_rs C b 0 0) (c_s C b (c_rs C b) 0) (c_s C b (c_rs C b) 1)))) 0 22 (v_wi (c_go (c_rs C b 0 0) (c_s C b (c_rs C b) 0) (c_s C b (c_rs C b) 1)))) 0 23 (if c_won (c_go (c_rs C b 0 0) (c_s C b (c_rs C b) 0) (c_s C b (c_rs C b) 1)) then nI b else -nI 1)) = J at *
    have hS4 : m_S (c_rs C (b + 1)) J := by
      refine ⟨?_, ?_, ?_, ?_, ?_, fun k hk => by rw [e0 _ _ (by decide)]; exact z6 k hk, fun k hk => by rw [e0 _ _ (by decide)]; exact z7 k hk⟩
      · show _ = nI (c_r C b (c_rs C b)); rw [hr, ← hJ]; simp [fw_u2_at]
      · show _ = nI (c_we C b (c_rs C b)); rw [← hJ]; simp [fw_u2_at, x18]
      · show _ = v_wi (c_r C b (c_rs C b)); rw [hr, ← hJ]; simp [fw_u2_at]
      · show _ = v_wb (if c_won (c_rs C b 0 0) then c_rs C b 0 2 else if c_won (c_r C b (c_rs C b)) then b + 1 else 0)
        rw [if_neg hwon, hr, ← hJ, fw_u2_self]
        split
        · rfl
        · rfl
      · show _ = nI (if c_won (c_rs C b 0 0) then c_rs C b 0 3 else _); rw [if_neg hwon, ← hJ]; simp [fw_u2_at]
    have hH4 : m_H C b J := by
      intro q hq
      obtain ⟨u1, u2, u3, u4⟩ := hH3 q hq
      refine ⟨?_, ?_, fun t ht => ?_, fun k hk => ?_⟩
      · rw [e0 _ _ (by decide)]; exact u1
      · rw [e0 _ _ (by decide)]; exact u2
      · rw [e0 _ _ (by decide)]; exact u3 t ht
      · rw [e0 _ _ (by decide), e0 _ _ (by decide)]; exact u4 k hk
    obtain ⟨I', q1, q2, q3, q4⟩ := m_75 hb hH4 hS4 (fun t ht => by rw [e0 _ _ (by decide)]; exact y4 t ht) (fun k hk => by rw [e0 _ _ (by decide)]; exact y2 k hk)
    have a1 : m_f m_v J I' := q2.m fun j x h => Or.inl ⟨by have := h.1; omega, h.2⟩
    have a2 : ∀ t, I' 14 t = I 14 t := fun t => by
      rw [q2 14 t (by omega), e0 14 t (by decide), h14]
    exact ⟨I', q1, (hf3.t f4).t a1, a2, q3, q4⟩
theorem m_159 {C : CF} (hC : c_B C) : ∀ (m b n : Nat), b + m = 24 → m < n → ∀ I : MI, m_CM C I → m_LM C I → m_S (c_rs C b) I → m_H C b I → ∃ I', g_X5_runs_159 n (nI b) I = some ((), I') ∧ m_f m_v I I' ∧ m_S (c_rs C 24) I' ∧ m_H C 24 I' := by
  intro m
  induction m with
  | zero =>
    intro b n hb hn I hM hL hS hH
    obtain ⟨n, rfl⟩ : ∃ q, n = q + 1 := ⟨n - 1, by omega⟩
    obtain rfl : b = 24 := by omega
    refine ⟨I, ?_, m_f.r I, hS, hH⟩
    unfold g_X5_runs_159
    rw [if_pos (by decide)]
  | succ m ih =>
    intro b n hb hn I hM hL hS hH
    obtain ⟨n, rfl⟩ : ∃ q, n = q + 1 := ⟨n - 1, by omega⟩
    obtain ⟨I1, r1, f1, l1, S1, H1⟩ := m_goesBy hC (show b < 24 by omega) hM hL hS hH
    obtain ⟨I', r2, f2, S2, H2⟩ := ih (b + 1) n (by omega) (by omega) I1 (hM.f f1) (hL.f l1) S1 H1
    refine ⟨I', ?_, f1.t f2, S2, H2⟩
    unfold g_X5_runs_159
    rw [if_neg (nI_ge (by omega) (by decide)), r1, mc_e, nI_add, r2]
/-- the places say who is last -/
def m_PL (C : CF) (I : MI) : Prop := ∃ pl : Nat → Nat, (∀ k, k < 16 → I 13 k = nI (pl k) ∧ pl k ≤ 100) ∧ (∀ k, c_he C k → (C 11 (k / 8) = k ↔ ∀ j, c_he C j → j / 8 = k / 8 → pl j ≤ pl k)) ∧ (∀ j k, c_he C j → c_he C k → j / 8 = k / 8 → pl j = pl k → j = k)
def m_Q (C : CF) (pl : Nat → Nat) (k : Nat) (I : MI) : Prop := (∀ j, j < k → I 15 j = nI (if c_th C j then C 3 j else 0) ∧ I 16 j = nI 0) ∧ ∀ t, t < 2 → (I 14 t = -nI 1 ∧ ∀ j, j < k → c_he C j → j / 8 ≠ t) ∨ ∃ l, l < k ∧ c_he C l ∧ l / 8 = t ∧ I 14 t = nI l ∧ ∀ j, j < k → c_he C j → j / 8 = t → pl j ≤ pl l
theorem m_45 {C : CF} (hC : c_B C) {pl : Nat → Nat} : ∀ (m k n : Nat), k + m = 16 → m < n → ∀ I : MI, m_CM C I → (∀ k, k < 16 → I 13 k = nI (pl k) ∧ pl k ≤ 100) → m_Q C pl k I → ∃ I', g_X5_runs_45 n (nI k) I = g_X5_runs_159 fw_fuel (nI 0) I' ∧ m_f m_v4 I I' ∧ m_Q C pl 16 I' := by
  intro m
  induction m with
  | zero =>
    intro k n hk hn I hM hp hQ
    obtain ⟨n, rfl⟩ : ∃ q, n = q + 1 := ⟨n - 1, by omega⟩
    obtain rfl : k = 16 := by omega
    refine ⟨I, ?_, m_f.r I, hQ⟩
    unfold g_X5_runs_45
    rw [if_pos (by decide)]
  | succ m ih =>
    intro k n hk hn I hM hp hQ
    obtain ⟨n, rfl⟩ : ∃ q, n = q + 1 := ⟨n - 1, by omega⟩
    have hk16 : k < 16 := by omega
    have v4 : ∀ {j x : Nat}, m_v4 j x → m_v j x := fun q => Or.inl ⟨q.1, by have := q.2; omega⟩
    have key : ∀ w : Nat, w = (if c_th C k then C 3 k else 0) → ∃ I', g_X5_runs_79 (g_X5_runs_45 n) (nI k) (nI (k / 8)) (nI w) (nI k) I = g_X5_runs_159 fw_fuel (nI 0) I' ∧ m_f m_v4 I I' ∧ m_Q C pl 16 I' := by
      intro w hw
      have f1 : m_f m_v4 I (fw_u2 (fw_u2 I 15 k (nI w)) 16 k (nI 0)) := ((m_f.r I).w (by simp [m_v, m_v1, m_v2, m_v3, m_v4])).w (by simp [m_v, m_v1, m_v2, m_v3, m_v4])
      have hM1 := hM.f (f1.m fun j x => v4)
      have e14 : ∀ t, (fw_u2 (fw_u2 I 15 k (nI w)) 16 k (nI 0)) 14 t = I 14 t := fun t => by rw [fw_u2_ne _ _ (by omega), fw_u2_ne _ _ (by omega)]
      have e13 : ∀ t, (fw_u2 (fw_u2 I 15 k (nI w)) 16 k (nI 0)) 13 t = I 13 t := fun t => by rw [fw_u2_ne _ _ (by omega), fw_u2_ne _ _ (by omega)]
      have e15 : ∀ j, j < k + 1 → (fw_u2 (fw_u2 I 15 k (nI w)) 16 k (nI 0)) 15 j = nI (if c_th C j then C 3 j else 0) ∧ (fw_u2 (fw_u2 I 15 k (nI w)) 16 k (nI 0)) 16 j = nI 0 := by
        intro j hj
        by_cases h : j = k
        · subst h
          rw [fw_u2_self, fw_u2_ne _ _ (by omega), fw_u2_self, hw]
          exact ⟨rfl, rfl⟩
        · rw [fw_u2_ne _ _ (by omega), fw_u2_ne _ _ (by omega), fw_u2_ne _ _ (by omega), fw_u2_ne _ _ (by omega)]
          exact hQ.1 j (by omega)
      -- the last of k's team becomes v
      have fin : ∀ (J : MI) (v : Int32), m_f m_v4 I J → (∀ j, j < k + 1 → J 15 j = nI (if c_th C j then C 3 j else 0) ∧ J 16 j = nI 0) → (∀ t, J 14 t = I 14 t) → ((v = -nI 1 ∧ ∀ j, j < k + 1 → c_he C j → j / 8 ≠ k / 8) ∨ ∃ l, l < k + 1 ∧ c_he C l ∧ l / 8 = k / 8 ∧ v = nI l ∧ ∀ j, j < k + 1 → c_he C j → j / 8 = k / 8 → pl j ≤ pl l) → ∃ I', g_X5_runs_150 (g_X5_runs_45 n) (nI k) v (nI (k / 8)) J = g_X5_runs_159 fw_fuel (nI 0) I' ∧ m_f m_v4 I I' ∧ m_Q C pl 16 I' := by
        intro J v hJ h15 h14 hv
        have hJ2 := hJ.w (show m_v4 14 (k / 8) by simp [m_v4]) (v := v)
        unfold g_X5_runs_150
        rw [mw_nI (by omega) (by decide), nI_add]
        obtain ⟨I', r1, r2, r3⟩ := ih (k + 1) n (by omega) (by omega) (fw_u2 J 14 (k / 8) v) (hM.f (hJ2.m fun j x => v4)) (fun i hi => by rw [hJ2 13 i (by omega)]; exact hp i hi) ⟨fun j hj => by rw [fw_u2_ne _ _ (by omega), fw_u2_ne _ _ (by omega)]; exact h15 j hj, fun t ht => by
          by_cases h : t = k / 8
          · subst h
            rw [fw_u2_self]
            exact hv
          · rw [fw_u2_ne _ _ (by omega), h14]
            rcases hQ.2 t ht with ⟨a, b⟩ | ⟨l, l1, l2, l3, l4, l5⟩
            · refine Or.inl ⟨a, fun j hj hh => ?_⟩
              by_cases hjk : j = k
              · subst hjk; exact fun q => h q.symm
              · exact b j (by omega) hh
            · refine Or.inr ⟨l, by omega, l2, l3, l4, fun j hj hh hjt => ?_⟩
              by_cases hjk : j = k
              · subst hjk; exact absurd hjt.symm h
              · exact l5 j (by omega) hh hjt⟩
        exact ⟨I', r1, hJ2.t r2, r3⟩
      have keep : (∀ l, c_he C k → c_he C l → l < k → l / 8 = k / 8 → I 14 (k / 8) = nI l → pl k ≤ pl l) → (c_he C k → ¬ I 14 (k / 8) = -nI 1) → ∃ I', g_X5_runs_129 (g_X5_runs_45 n) (nI k) (nI (k / 8)) (fw_u2 (fw_u2 I 15 k (nI w)) 16 k (nI 0)) = g_X5_runs_159 fw_fuel (nI 0) I' ∧ m_f m_v4 I I' ∧ m_Q C pl 16 I' := by
        intro h1 h2
        unfold g_X5_runs_129 g_X5_runs_130
        rw [if_pos (by decide), md_nI (by omega) (by decide), e14]
        refine fin _ _ f1 e15 e14 ?_
        rcases hQ.2 (k / 8) (by omega) with ⟨a, b⟩ | ⟨l, l1, l2, l3, l4, l5⟩
        · refine Or.inl ⟨a, fun j hj hh => ?_⟩
          by_cases hjk : j = k
          · subst hjk; exact absurd a (h2 hh)
          · exact b j (by omega) hh
        · refine Or.inr ⟨l, by omega, l2, l3, l4, fun j hj hh hjt => ?_⟩
          by_cases hjk : j = k
          · subst hjk; exact h1 l hh l2 l1 l3 l4
          · exact l5 j (by omega) hh hjt
      have take : c_he C k → (∀ l, c_he C l → l < k → l / 8 = k / 8 → I 14 (k / 8) = nI l → pl l ≤ pl k) → ∃ I', g_X5_runs_125 (g_X5_runs_45 n) (nI k) (nI (k / 8)) (fw_u2 (fw_u2 I 15 k (nI w)) 16 k (nI 0)) = g_X5_runs_159 fw_fuel (nI 0) I' ∧ m_f m_v4 I I' ∧ m_Q C pl 16 I' := by
        intro h1 h2
        unfold g_X5_runs_125 g_X5_runs_130
        rw [if_neg (by decide)]
        refine fin _ _ f1 e15 e14 (Or.inr ⟨k, by omega, h1, rfl, rfl, fun j hj hh hjt => ?_⟩)
        by_cases hjk : j = k
        · subst hjk; exact Nat.le_refl _
        · rcases hQ.2 (k / 8) (by omega) with ⟨a, b⟩ | ⟨l, l1, l2, l3, l4, l5⟩
          · exact absurd hjt (b j (by omega) hh)
          · exact Nat.le_trans (l5 j (by omega) hh hjt) (h2 l l2 l1 l3 l4)
      unfold g_X5_runs_79
      rw [mw_nI hk16 (by decide), mw_nI hk16 (by decide), m_here hC hM1 hk16, mc_e]
      by_cases hh : c_he C k
      · rw [if_pos hh, if_neg (by decide), md_nI (by omega) (by decide), e14]
        rcases hQ.2 (k / 8) (by omega) with ⟨a, b⟩ | ⟨l, l1, l2, l3, l4, l5⟩
        · rw [if_pos a]
          exact take hh (fun l q1 q2 q3 _ => absurd q3 (b l q2 q1))
        · rw [if_neg (by rw [l4]; exact nI_m1 (by omega)), md_nI hk16 (by decide), md_nI (by omega) (by decide), e14, l4, md_nI (by omega) (by decide), e13, e13, (hp k hk16).1, (hp l (by omega)).1, i_le (by have := (hp k hk16).2; omega) (by have := (hp l (by omega)).2; omega)]
          by_cases hle : pl k ≤ pl l
          · rw [if_pos hle]
            exact keep (fun l2 _ _ q _ q2 => by rw [l4, nI_eq (by omega) (by omega)] at q2; subst q2; exact hle) (fun _ => by rw [l4]; exact nI_m1 (by omega))
          · rw [if_neg hle]
            exact take hh (fun l2 _ q _ q2 => by rw [l4, nI_eq (by omega) (by omega)] at q2; subst q2; omega)
      · rw [if_neg hh, if_pos nI_0]
        exact keep (fun _ q => absurd q hh) (fun q => absurd q hh)
    unfold g_X5_runs_45
    rw [if_neg (nI_ge (by omega) (by decide)), m_there hC hM hk16, mc_e]
    by_cases h : k % 8 < C 0 (k / 8)
    · rw [if_pos h, if_neg (by decide), md_nI (by omega) (by decide), (hM.2.1 k ⟨hk16, h⟩).2.2, pk_div (by omega) (by decide) (by decide)]
      exact key _ (if_pos ⟨hk16, h⟩).symm
    · rw [if_neg h, if_pos nI_0, pk_div (by omega) (by decide) (by decide)]
      exact key 0 (if_neg (fun q => h q.2)).symm
theorem m_runs {C : CF} (hC : c_B C) {I : MI} (hM : m_CM C I) (hP : m_PL C I) : ∃ I', g_X5_runs I = some ((), I') ∧ m_f m_v I I' ∧ m_S (c_rs C 24) I' ∧ m_H C 24 I' := by
  obtain ⟨pl, p1, p2, p3⟩ := hP
  unfold g_X5_runs
  simp only [mg_e, mp_e]
  rw [mw_nI (by decide) (by decide), mw_nI (by decide) (by decide)]
  have f1 : m_f m_v I (fw_u2 (fw_u2 (fw_u2 (fw_u2 (fw_u2 (fw_u2 (fw_u2 I 0 18 (I 0 8)) 0 21 (nI 12)) 0 22 (-nI 1)) 0 23 (-nI 1)) 0 24 (nI 0)) 14 0 (-nI 1)) 14 1 (-nI 1)) := (((((((m_f.r I).w (by simp [m_v, m_v1, m_v2, m_v3, m_v4])).w (by simp [m_v, m_v1, m_v2, m_v3, m_v4])).w (by simp [m_v, m_v1, m_v2, m_v3, m_v4])).w (by simp [m_v, m_v1, m_v2, m_v3, m_v4])).w (by simp [m_v, m_v1, m_v2, m_v3, m_v4])).w (by simp [m_v, m_v1, m_v2, m_v3, m_v4])).w (by simp [m_v, m_v1, m_v2, m_v3, m_v4])
  have hQ : m_Q C pl 0 (fw_u2 (fw_u2 (fw_u2 (fw_u2 (fw_u2 (fw_u2 (fw_u2 I 0 18 (I 0 8)) 0 21 (nI 12)) 0 22 (-nI 1)) 0 23 (-nI 1)) 0 24 (nI 0)) 14 0 (-nI 1)) 14 1 (-nI 1)) := by
    refine ⟨fun j hj => by omega, fun t ht => Or.inl ⟨?_, fun j hj => by omega⟩⟩
    rcases (show t = 0 ∨ t = 1 by omega) with h | h <;> subst h <;> simp [fw_u2_at]
  obtain ⟨I2, r2, f2, q1, q2⟩ := m_45 hC 16 0 fw_fuel rfl (by decide) _ (hM.f f1) (fun k hk => by rw [f1 13 k (m_nv (by omega) (by omega))]; exact p1 k hk) hQ
  have f3 : m_f m_v I I2 := f1.t (f2.m fun j x q => Or.inl ⟨q.1, by have := q.2; omega⟩)
  have e0 : ∀ x, I2 0 x = (fw_u2 (fw_u2 (fw_u2 (fw_u2 (fw_u2 (fw_u2 (fw_u2 I 0 18 (I 0 8)) 0 21 (nI 12)) 0 22 (-nI 1)) 0 23 (-nI 1)) 0 24 (nI 0)) 14 0 (-nI 1)) 14 1 (-nI 1)) 0 x := fun x => f2 0 x (by omega)
  have hL : m_LM C I2 := by
    intro k hk
    have hk16 := hk.1.1
    rcases q2 (k / 8) (by omega) with ⟨_, b⟩ | ⟨l, l1, l2, l3, l4, l5⟩
    · exact absurd rfl (b k hk16 hk)
    · rw [l4, nI_eq (by omega) (by omega), p2 k hk]
      constructor
      · intro h j hj hjt
        subst h
        exact l5 j hj.1.1 hj hjt
      · intro h
        exact p3 l k l2 hk l3 (Nat.le_antisymm (h l l2 l3) (l5 k hk16 hk rfl))
  have hS : m_S (c_rs C 0) I2 := by
    refine ⟨?_, ?_, ?_, ?_, ?_, fun k hk => (q1 k hk).1, fun k hk => (q1 k hk).2⟩
    · rw [e0]; simp [fw_u2_at, c_rs]
    · rw [e0]; simp [fw_u2_at, c_rs, hM.2.2.2.1]
    · rw [e0]; simp [fw_u2_at, c_rs, v_wi]
    · rw [e0]; simp [fw_u2_at, c_rs, v_wb]
    · rw [e0]; simp [fw_u2_at, c_rs]
  obtain ⟨I', r4, f4, S4, H4⟩ := m_159 hC 24 0 fw_fuel rfl (by decide) I2 (hM.f f3) hL hS (fun q hq => by omega)
  exact ⟨I', by rw [r2, r4], f3.t f4, S4, H4⟩
