set_option maxRecDepth 100000
/-! The model's answers about its beats as they are told. -/
section Mo
variable {P : CF} {Q : Nat → Int32}
/-- the model's ints hold what is kept and what the texts tell -/
def m_K (P : CF) (Q : Nat → Int32) (I : MI) : Prop := m_P P Q I ∧ m_R P I
theorem m_K.f {I I' : MI} (hB : p_B P) (h : m_K P Q I) (e : m_f (fun j x => m_w j x ∧ ¬ (3 ≤ j ∧ j ≤ 8)) I I') : m_K P Q I' := ⟨h.1.f (e.m fun j x q => q.1), h.2.f hB (fun j x q => e j x (fun z => z.2 q))⟩
theorem m_v_w {j x : Nat} (h : m_v j x) : m_w j x ∧ ¬ (3 ≤ j ∧ j ≤ 8) := by omega
theorem m_told (hB : p_B P) {I : MI} (hP : m_P P Q I) : ∃ I', g_X5_asTold I = some ((), I') ∧ m_K P Q I' ∧ m_CM (c_to P) I' ∧ (∀ k, k < 16 → I' 13 k = nI (k % 8)) ∧ I' 0 14 = nI 0 ∧ I' 0 16 = -nI 1 := by
  obtain ⟨I', r1, r2, r3, r4, r5, r6, r7⟩ := m_asTold hB hP
  exact ⟨I', r1, ⟨hP.f (r2.m fun j x q => by omega), r3⟩, r4, r5, r6, r7⟩
theorem c_to_0 {t : Nat} (ht : t < 2) : c_to P 0 t = c_ma P t := if_pos ht
theorem c_to_PL (hB : p_B P) {I : MI} (h : ∀ k, k < 16 → I 13 k = nI (k % 8)) : m_PL (c_to P) I := m_PL_to hB h (fun _ ht => c_to_0 ht) (fun _ _ => rfl) (Nat.le_refl 16)
theorem m_runsTold (hB : p_B P) {I : MI} (hP : m_P P Q I) : ∃ I', g_X5_runsTold I = some ((), I') ∧ m_K P Q I' ∧ m_CM (c_to P) I' ∧ m_S (c_rs (c_to P) 24) I' ∧ m_H (c_to P) 24 I' := by
  obtain ⟨I1, a1, a2, a3, a4, a5, a6⟩ := m_told hB hP
  obtain ⟨I2, b1, b2, b3, b4⟩ := m_runs (c_to_B hB) a3 (c_to_PL hB a4)
  refine ⟨I2, ?_, a2.f hB (b2.m fun j x q => m_v_w q), a3.f b2, b3, b4⟩
  unfold g_X5_runsTold
  rw [a1, mc_e, b1, mc_e]
theorem m_ropeOf (hB : p_B P) {I : MI} (hP : m_P P Q I) {b w : Nat} (hb : b < 24) (hw : w < 4) : ∃ I', g_X5_ropeOf (nI b) (nI w) I = some (nI (v_rope (c_to P) b w), I') ∧ m_K P Q I' := by
  obtain ⟨I', r1, r2, -, -, r5⟩ := m_runsTold hB hP
  obtain ⟨h1, h2, h3, -⟩ := r5 b hb
  refine ⟨I', ?_, r2⟩
  unfold g_X5_ropeOf v_rope
  rw [r1, mc_e, i_z (by omega)]
  by_cases h0 : w = 0
  · rw [if_pos h0, md_nI hb (by decide), h1, if_pos h0]
  · rw [if_neg h0, i_eq (by omega) (by decide)]
    by_cases q : w = 3
    · rw [if_pos q, md_nI hb (by decide), h2, if_neg h0, if_pos q]
    · rw [if_neg q, pk_mul, nI_add, pk_sub (by omega), md_nI (by omega) (by decide), show 2 * b + w - 1 = 2 * b + (w - 1) by omega, h3 _ (by omega), if_neg h0, if_neg q]
theorem m_atOf (hB : p_B P) {I : MI} (hP : m_P P Q I) {b k w : Nat} (hb : b < 24) (hk : k < 16) (hw : w < 2) : ∃ I', g_X5_atOf (nI b) (nI k) (nI w) I = some (nI (v_at (c_to P) b k w), I') ∧ m_P P Q I' := by
  obtain ⟨I', r1, r2, -, -, r5⟩ := m_runsTold hB hP
  obtain ⟨-, -, -, h4⟩ := r5 b hb
  refine ⟨I', ?_, r2.1⟩
  unfold g_X5_atOf v_at
  rw [r1, mc_e, i_z (by omega)]
  by_cases h0 : w = 0
  · rw [if_pos h0, pk_mul, nI_add, md_nI (by omega) (by decide), (h4 k hk).1, if_pos h0]
  · rw [if_neg h0, pk_mul, nI_add, md_nI (by omega) (by decide), (h4 k hk).2, if_neg h0]
theorem m_wonOf (hB : p_B P) {I : MI} (hP : m_P P Q I) {w : Nat} (hw : w < 2) : ∃ I', g_X5_wonOf (nI w) I = some (if w = 0 then v_wi (c_ro (c_to P)) else v_wb (c_rs (c_to P) 24 0 2), I') ∧ m_P P Q I' := by
  obtain ⟨I', r1, r2, -, r4, -⟩ := m_runsTold hB hP
  refine ⟨I', ?_, r2.1⟩
  unfold g_X5_wonOf
  rw [r1, mc_e, i_z (by omega)]
  by_cases h0 : w = 0
  · rw [if_pos h0, mg_e, r4.2.2.1, if_pos h0]; rfl
  · rw [if_neg h0, mg_e, r4.2.2.2.1, if_neg h0]
theorem v_fu_le {C : CF} (hC : c_B C) (w : Nat) : ∀ b, v_fu C w b ≤ 24
  | 0 => by show 12 ≤ 24; decide
  | b + 1 => by
    have := v_fu_le hC w b
    have := (c_rs_SB hC (b + 1)).1
    unfold v_fu
    split <;> omega
theorem m_fu {C : CF} (hC : c_B C) {I : MI} (hH : m_H C 24 I) {w : Nat} (hw : w < 2) : ∀ (m b n : Nat), b + m = 24 → m < n → g_X5_furthestOf_9 n (nI w) (nI (v_fu C w b)) (nI b) I = some (nI (v_fu C w 24), I) := by
  intro m
  induction m with
  | zero =>
    intro b n hb hn
    obtain ⟨n, rfl⟩ : ∃ q, n = q + 1 := ⟨n - 1, by omega⟩
    obtain rfl : b = 24 := by omega
    unfold g_X5_furthestOf_9
    rw [if_pos (by decide)]
  | succ m ih =>
    intro b n hb hn
    obtain ⟨n, rfl⟩ : ∃ q, n = q + 1 := ⟨n - 1, by omega⟩
    have h1 := (hH b (by omega)).1
    have hl := v_fu_le hC w b
    have hr := (c_rs_SB hC (b + 1)).1
    have go : ∀ f : Nat, f < 2 → v_fu C w (b + 1) = (if f = 0 then v_fu C w b else c_rs C (b + 1) 0 0) → g_X5_furthestOf_52 (g_X5_furthestOf_9 n) (nI w) (nI (v_fu C w b)) (nI b) (nI f) I = some (nI (v_fu C w 24), I) := by
      intro f hf e
      unfold g_X5_furthestOf_52 g_X5_furthestOf_69
      rw [i_z (by omega)]
      by_cases h0 : f = 0
      · rw [if_pos h0, nI_add]
        have := ih (b + 1) n (by omega) (by omega)
        rw [e, if_pos h0] at this
        exact this
      · rw [if_neg h0, md_nI (by omega) (by decide), h1, nI_add]
        have := ih (b + 1) n (by omega) (by omega)
        rw [e, if_neg h0] at this
        exact this
    unfold g_X5_furthestOf_9
    rw [if_neg (nI_ge (by omega) (by decide)), i_z (by omega)]
    by_cases h0 : w = 0
    · rw [if_pos h0, md_nI (by omega) (by decide), h1, i_le (by omega) (by omega)]
      have e : v_fu C w (b + 1) = max (c_rs C (b + 1) 0 0) (v_fu C w b) := if_pos h0
      by_cases q : c_rs C (b + 1) 0 0 ≤ v_fu C w b
      · rw [if_pos q]
        exact go 0 (by decide) (by rw [e, if_pos rfl]; omega)
      · rw [if_neg q]
        exact go 1 (by decide) (by rw [e, if_neg (by decide)]; omega)
    · rw [if_neg h0, md_nI (by omega) (by decide), h1, i_le (by omega) (by omega)]
      have e : v_fu C w (b + 1) = min (c_rs C (b + 1) 0 0) (v_fu C w b) := if_neg h0
      by_cases q : v_fu C w b ≤ c_rs C (b + 1) 0 0
      · rw [if_pos q]
        exact go 0 (by decide) (by rw [e, if_pos rfl]; omega)
      · rw [if_neg q]
        exact go 1 (by decide) (by rw [e, if_neg (by decide)]; omega)
theorem m_furthestOf (hB : p_B P) {I : MI} (hP : m_P P Q I) {w : Nat} (hw : w < 2) : ∃ I', g_X5_furthestOf (nI w) I = some (nI (v_fu (c_to P) w 24), I') ∧ m_P P Q I' := by
  obtain ⟨I', r1, r2, -, -, r5⟩ := m_runsTold hB hP
  refine ⟨I', ?_, r2.1⟩
  unfold g_X5_furthestOf
  rw [r1, mc_e]
  exact m_fu (c_to_B hB) r5 hw 24 0 fw_fuel rfl (by decide)
theorem m_doneOf (hB : p_B P) {I : MI} (hP : m_P P Q I) {k : Nat} (hk : k < 16) : ∃ I', g_X5_doneOf (nI k) I = some (nI (c_rs (c_to P) 24 2 k), I') ∧ m_P P Q I' := by
  obtain ⟨I', r1, r2, -, r4, -⟩ := m_runsTold hB hP
  refine ⟨I', ?_, r2.1⟩
  unfold g_X5_doneOf
  rw [r1, mc_e, md_nI hk (by decide), r4.2.2.2.2.2.2 k hk]
theorem m_levelOf (hB : p_B P) {I : MI} (hP : m_P P Q I) : ∃ I', g_X5_levelOf I = some (nI (c_rs (c_to P) 24 0 3), I') ∧ m_P P Q I' := by
  obtain ⟨I', r1, r2, -, r4, -⟩ := m_runsTold hB hP
  refine ⟨I', ?_, r2.1⟩
  unfold g_X5_levelOf
  rw [r1, mc_e, mg_e, r4.2.2.2.2.1]
theorem m_sp8 {C : CF} (hC : c_B C) {I : MI} (hM : m_CM C I) (hS : m_S (c_rs C 24) I) : ∀ (m k n : Nat), k + m = 16 → m < n → g_X5_spentOf_8 n (v_bi (fun k => decide (c_th C k ∧ c_rs C 24 1 k = 0)) k) (nI k) I = some (v_sp C, I) := by
  intro m
  induction m with
  | zero =>
    intro k n hk hn
    obtain ⟨n, rfl⟩ : ∃ q, n = q + 1 := ⟨n - 1, by omega⟩
    obtain rfl : k = 16 := by omega
    unfold g_X5_spentOf_8
    rw [if_pos (by decide)]
    rfl
  | succ m ih =>
    intro k n hk hn
    obtain ⟨n, rfl⟩ : ∃ q, n = q + 1 := ⟨n - 1, by omega⟩
    have hk16 : k < 16 := by omega
    have i := ih (k + 1) n (by omega) (by omega)
    have hbr := (c_rs_SB hC 24).2.2.1 k
    have h9 := (hC.2.1 k).2.2
    unfold g_X5_spentOf_8
    rw [if_neg (nI_ge (by omega) (by decide)), m_there hC hM hk16, mc_e]
    have e : ∀ p : Bool, p = decide (c_th C k ∧ c_rs C 24 1 k = 0) → v_bi (fun k => decide (c_th C k ∧ c_rs C 24 1 k = 0)) (k + 1) = v_bi (fun k => decide (c_th C k ∧ c_rs C 24 1 k = 0)) k ||| (if p = true then nI 1 <<< (nI k &&& 31) else nI 0) := fun p hp => by rw [hp]; rfl
    by_cases h : k % 8 < C 0 (k / 8)
    · rw [if_pos h, if_neg (by decide), md_nI hk16 (by decide), hS.2.2.2.2.2.1 k hk16, i_z (by omega)]
      by_cases h0 : c_rs C 24 1 k = 0
      · rw [if_pos h0]
        unfold g_X5_spentOf_39
        rw [nI_add]
        rw [e true (by simp [h0, hk16, h]), if_pos rfl] at i
        exact i
      · rw [if_neg h0]
        unfold g_X5_spentOf_38 g_X5_spentOf_39
        rw [nI_add]
        rw [e false (by simp [h0]), if_neg (by decide)] at i
        exact i
    · rw [if_neg h, if_pos nI_0]
      unfold g_X5_spentOf_38 g_X5_spentOf_39
      rw [nI_add]
      rw [e false (by simp [h]), if_neg (by decide)] at i
      exact i
theorem m_spentOf (hB : p_B P) {I : MI} (hP : m_P P Q I) : ∃ I', g_X5_spentOf I = some (v_sp (c_to P), I') ∧ m_P P Q I' := by
  obtain ⟨I', r1, r2, r3, r4, -⟩ := m_runsTold hB hP
  refine ⟨I', ?_, r2.1⟩
  unfold g_X5_spentOf
  rw [r1, mc_e]
  exact m_sp8 (c_to_B hB) r3 r4 16 0 fw_fuel rfl (by decide)
/-- who has done the most, as an int -/
def v_bn (C : CF) (k : Nat) : Int32 := if (v_be C k).1 = 0 then -nI 1 else nI ((v_be C k).1 - 1)
theorem v_be_le {C : CF} (hC : c_B C) : ∀ k, (v_be C k).2 ≤ 480 ∧ (v_be C k).1 ≤ k
  | 0 => ⟨Nat.zero_le _, Nat.zero_le _⟩
  | k + 1 => by
    have := v_be_le hC k
    have := (c_rs_SB hC 24).2.2.2.2.1 k
    unfold v_be
    split
    · exact ⟨by show c_rs C 24 2 k ≤ 480; omega, Nat.le_refl _⟩
    · omega
theorem m_be {C : CF} (hC : c_B C) {I : MI} (hS : m_S (c_rs C 24) I) : ∀ (m k n : Nat), k + m = 16 → m < n → g_X5_bestOf_10 n (v_bn C k) (nI (v_be C k).2) (nI k) I = some (v_bn C 16, I) := by
  intro m
  induction m with
  | zero =>
    intro k n hk hn
    obtain ⟨n, rfl⟩ : ∃ q, n = q + 1 := ⟨n - 1, by omega⟩
    obtain rfl : k = 16 := by omega
    unfold g_X5_bestOf_10
    rw [if_pos (by decide)]
  | succ m ih =>
    intro k n hk hn
    obtain ⟨n, rfl⟩ : ∃ q, n = q + 1 := ⟨n - 1, by omega⟩
    have hk16 : k < 16 := by omega
    have i := ih (k + 1) n (by omega) (by omega)
    have h7 := hS.2.2.2.2.2.2 k hk16
    have hd := (c_rs_SB hC 24).2.2.2.2.1 k
    have hl := v_be_le hC k
    unfold g_X5_bestOf_10
    rw [if_neg (nI_ge (by omega) (by decide)), md_nI hk16 (by decide), h7, i_le (by omega) (by omega)]
    by_cases h : (v_be C k).2 < c_rs C 24 2 k
    · have e : v_be C (k + 1) = (k + 1, c_rs C 24 2 k) := if_pos h
      rw [if_neg (by omega)]
      unfold g_X5_bestOf_31 g_X5_bestOf_52
      rw [md_nI hk16 (by decide), h7, i_le (by omega) (by omega), if_neg (by omega), md_nI hk16 (by decide), h7, nI_add]
      unfold v_bn at i
      rw [e] at i
      exact i
    · have e : v_be C (k + 1) = v_be C k := if_neg h
      rw [if_pos (by omega)]
      unfold g_X5_bestOf_31 g_X5_bestOf_52
      rw [md_nI hk16 (by decide), h7, i_le (by omega) (by omega), if_pos (by omega), nI_add]
      unfold v_bn at i ⊢
      rw [e] at i
      exact i
theorem m_bestOf (hB : p_B P) {I : MI} (hP : m_P P Q I) : ∃ I', g_X5_bestOf I = some (v_bn (c_to P) 16, I') ∧ m_P P Q I' := by
  obtain ⟨I', r1, r2, -, r4, -⟩ := m_runsTold hB hP
  refine ⟨I', ?_, r2.1⟩
  unfold g_X5_bestOf
  rw [r1, mc_e]
  exact m_be (c_to_B hB) r4 16 0 fw_fuel rfl (by decide)
theorem m_tellOf (hB : p_B P) {I : MI} (hP : m_P P Q I) {w : Nat} (hw : w < 4 ∨ w = 6) : ∃ I', g_X5_tellOf (nI w) I = some (if w < 4 then nI (c_ma P w) else nI (c_ro (c_to P)), I') ∧ m_P P Q I' := by
  obtain ⟨I', r1, r2, -, r4, -⟩ := m_runsTold hB hP
  refine ⟨I', ?_, r2.1⟩
  unfold g_X5_tellOf
  rw [r1, mc_e, i_le (by decide) (by omega)]
  by_cases h2 : 2 ≤ w
  · rw [if_pos h2, i_le (by decide) (by omega)]
    by_cases h4 : 4 ≤ w
    · rw [if_pos h4, mg_e, r4.1, if_neg (by omega)]; rfl
    · rw [if_neg h4, pk_sub h2, md_nI (by omega) (by decide), (r2.2.2 (w - 2) (by omega)).1, if_pos (by omega), show w - 2 + 2 = w by omega]
  · rw [if_neg h2, md_nI (by omega) (by decide), (r2.2.1 w (by omega)).1, if_pos (by omega)]
end Mo
