set_option maxRecDepth 100000
/-! The model's changing operations (1). -/
section Ss
variable {P : CF} {Q : Nat → Int32}
/-- an operation that changes -/
def m_mu (P : CF) (Q : Nat → Int32) (F : MI → Option (Int32 × MI)) (r : OS) : Prop := ∀ I, m_P P Q I → ∃ I', F I = some (r.1, I') ∧ m_P r.2.1 r.2.2 I'
theorem m_o_wipe (x : Int32) : m_mu P Q (g_X5_wipe x) (o_wipe P Q x) := by
  intro I hP
  unfold g_X5_wipe o_wipe
  rcases bd_or x (N := 3) (by decide) with q | ⟨k, hk, rfl⟩
  · rw [if_pos q]
    exact ⟨I, by rw [m_textB q, mc_e, if_pos n0], hP⟩
  · rw [if_neg (bd_no hk (by decide)), oN_e (by omega)]
    refine ⟨fw_u2 I 1 k (nI 0), ?_, ?_⟩
    · rw [m_textG hk, mc_e, if_neg n1, md_nI (by omega) (by decide), hP.1 k (by omega), mw_nI (by omega) (by decide)]
    · obtain ⟨p1, p2, p3⟩ := hP
      refine ⟨fun t ht => ?_, fun t i ht hi => ?_, p3⟩
      · show fw_u2 I 1 k (nI 0) 1 t = nI (fw_u2 P 0 k 0 0 t)
        by_cases q : t = k
        · subst q
          rw [fw_u2_self, fw_u2_self]
        · rw [fw_u2_ne _ _ (by omega), fw_u2_ne _ _ (by omega)]
          exact p1 t ht
      · have hi : i < fw_u2 P 0 k 0 0 t := hi
        by_cases q : t = k
        · subst q
          rw [fw_u2_self] at hi
          omega
        · rw [fw_u2_ne _ _ (by omega)] at hi
          show fw_u2 I 1 k (nI 0) 2 (31 * t + i) = nI (P 1 (31 * t + i))
          rw [fw_u2_ne _ _ (by omega)]
          exact p2 t i ht hi
theorem m_o_undo (hB : p_B P) (x : Int32) : m_mu P Q (g_X5_undo x) (o_undo P Q x) := by
  intro I hP
  unfold g_X5_undo o_undo
  rcases bd_or x (N := 3) (by decide) with q | ⟨k, hk, rfl⟩
  · rw [if_pos q]
    exact ⟨I, by rw [m_textB q, mc_e, if_pos n0], hP⟩
  · have hb : P 0 k < 2 ^ 31 := by have := hB.1 k; split at this <;> omega
    rw [if_neg (bd_no hk (by decide)), oN_e (by omega), m_textG hk, mc_e, if_neg n1, md_nI (by omega) (by decide), hP.1 k (by omega), i_z hb]
    by_cases q : P 0 k = 0
    · rw [if_pos q, if_pos q]
      exact ⟨I, rfl, hP⟩
    · rw [if_neg q, if_neg q, md_nI (by omega) (by decide), hP.1 k (by omega), mw_nI (by omega) (by decide), pk_sub (by omega), md_nI (by omega) (by decide), fw_u2_self]
      refine ⟨_, rfl, ?_⟩
      obtain ⟨p1, p2, p3⟩ := hP
      refine ⟨fun t ht => ?_, fun t i ht hi => ?_, p3⟩
      · show fw_u2 I 1 k (nI (P 0 k - 1)) 1 t = nI (fw_u2 P 0 k (P 0 k - 1) 0 t)
        by_cases q : t = k
        · subst q
          rw [fw_u2_self, fw_u2_self]
        · rw [fw_u2_ne _ _ (by omega), fw_u2_ne _ _ (by omega)]
          exact p1 t ht
      · have hi : i < fw_u2 P 0 k (P 0 k - 1) 0 t := hi
        show fw_u2 I 1 k (nI (P 0 k - 1)) 2 (31 * t + i) = nI (P 1 (31 * t + i))
        rw [fw_u2_ne _ _ (by omega)]
        by_cases q : t = k
        · subst q
          rw [fw_u2_self] at hi
          exact p2 t i ht (by omega)
        · rw [fw_u2_ne _ _ (by omega)] at hi
          exact p2 t i ht hi
theorem m_o_type (hB : p_B P) (x b : Int32) : m_mu P Q (g_X5_type x b) (o_type P Q x b) := by
  intro I hP
  unfold g_X5_type o_type
  rcases bd_or x (N := 3) (by decide) with q | ⟨k, hk, rfl⟩
  · rw [if_pos q]
    exact ⟨I, by rw [m_textB q, mc_e, if_pos n0], hP⟩
  · rw [if_neg (bd_no hk (by decide)), oN_e (by omega), m_textG hk, mc_e, if_neg n1]
    rcases bd_or b (N := 255) (by decide) with q | ⟨y, hy, rfl⟩
    · rw [if_pos q]
      exact ⟨I, by rw [m_inB q, mc_e, if_pos n0], hP⟩
    · have hb := hB.1 k
      have h31 : P 0 k ≤ 31 := by split at hb <;> omega
      rw [if_neg (bd_no hy (by decide)), oN_e (by omega), m_inG hy (by decide), mc_e, if_neg n1, md_nI (by omega) (by decide), hP.1 k (by omega), i_le (by decide) (by omega)]
      have main : ∀ M : Nat, M ≤ 31 → (k ≥ 2 → M = 24) → P 0 k ≤ M → (if P 0 k = M then (-nI 4, P, Q) else (nI (P 0 k + 1), fw_u2 (fw_u2 P 1 (31 * k + P 0 k) y) 0 k (P 0 k + 1), Q)) = (if P 0 k = M then (-nI 4, P, Q) else (nI (P 0 k + 1), fw_u2 (fw_u2 P 1 (31 * k + P 0 k) y) 0 k (P 0 k + 1), Q) : OS) → ∃ I', g_X5_type_39 (nI k) (nI y) (nI M) (nI (P 0 k)) I = some ((if P 0 k = M then (-nI 4, P, Q) else (nI (P 0 k + 1), fw_u2 (fw_u2 P 1 (31 * k + P 0 k) y) 0 k (P 0 k + 1), Q) : OS).1, I') ∧ m_P (if P 0 k = M then (-nI 4, P, Q) else (nI (P 0 k + 1), fw_u2 (fw_u2 P 1 (31 * k + P 0 k) y) 0 k (P 0 k + 1), Q) : OS).2.1 (if P 0 k = M then (-nI 4, P, Q) else (nI (P 0 k + 1), fw_u2 (fw_u2 P 1 (31 * k + P 0 k) y) 0 k (P 0 k + 1), Q) : OS).2.2 I' := by
        intro M hM h2 hle _
        unfold g_X5_type_39
        rw [i_eq (by omega) (by omega)]
        by_cases q : P 0 k = M
        · rw [if_pos q, if_pos q]
          exact ⟨I, rfl, hP⟩
        · rw [if_neg q, if_neg q, md_nI (by omega) (by decide), hP.1 k (by omega), pk_mul, nI_add, mw_nI (by omega) (by decide), md_nI (by omega) (by decide), fw_u2_ne _ _ (by omega), hP.1 k (by omega), nI_add, mw_nI (by omega) (by decide), md_nI (by omega) (by decide), fw_u2_self]
          refine ⟨_, rfl, ?_⟩
          obtain ⟨p1, p2, p3⟩ := hP
          refine ⟨fun t ht => ?_, fun t i ht hi => ?_, p3⟩
          · show fw_u2 (fw_u2 I 2 (31 * k + P 0 k) (nI y)) 1 k (nI (P 0 k + 1)) 1 t = nI (fw_u2 (fw_u2 P 1 (31 * k + P 0 k) y) 0 k (P 0 k + 1) 0 t)
            by_cases q : t = k
            · subst q
              rw [fw_u2_self, fw_u2_self]
            · rw [fw_u2_ne _ _ (by omega), fw_u2_ne _ _ (by omega), fw_u2_ne _ _ (by omega), fw_u2_ne _ _ (by omega)]
              exact p1 t ht
          · have hi : i < fw_u2 (fw_u2 P 1 (31 * k + P 0 k) y) 0 k (P 0 k + 1) 0 t := hi
            show fw_u2 (fw_u2 I 2 (31 * k + P 0 k) (nI y)) 1 k (nI (P 0 k + 1)) 2 (31 * t + i) = nI (fw_u2 (fw_u2 P 1 (31 * k + P 0 k) y) 0 k (P 0 k + 1) 1 (31 * t + i))
            rw [fw_u2_ne _ _ (by omega), fw_u2_ne (fw_u2 P 1 (31 * k + P 0 k) y) _ (by omega)]
            have hbt := hB.1 t
            have ht31 : P 0 t ≤ 31 := by split at hbt <;> omega
            by_cases q : t = k
            · subst q
              rw [fw_u2_self] at hi
              by_cases z : i = P 0 t
              · subst z
                rw [fw_u2_self, fw_u2_self]
              · rw [fw_u2_ne _ _ (by omega), fw_u2_ne _ _ (by omega)]
                exact p2 t i ht (by omega)
            · rw [fw_u2_ne _ _ (by omega), fw_u2_ne _ _ (by omega)] at hi
              rw [fw_u2_ne _ _ (by omega), fw_u2_ne _ _ (by omega)]
              exact p2 t i ht hi
      by_cases q : 2 ≤ k
      · rw [if_pos q, if_pos q]
        exact main 24 (by decide) (fun _ => rfl) (by rw [if_neg (by omega)] at hb; exact hb) rfl
      · rw [if_neg q, if_neg q]
        exact main 31 (by decide) (fun z => absurd z q) h31 rfl
theorem m_o_mud (x : Int32) : m_mu P Q (g_X5_mud x) (o_mud P Q x) := by
  intro I hP
  unfold g_X5_mud o_mud
  rcases bd_or x (N := 9) (by decide) with q | ⟨k, hk, rfl⟩
  · rw [if_pos q]
    exact ⟨I, by rw [m_inB q, mc_e, if_pos n0], hP⟩
  · rw [if_neg (bd_no hk (by decide)), oN_e (by omega), m_inG hk (by decide), mc_e, if_neg n1, mg_e, mp_e, hP.2.2.1]
    obtain ⟨p1, p2, p3, p4⟩ := hP
    exact ⟨_, rfl, p1, p2, by dsimp only; rw [fw_u2_self, fw_u2_self], p4⟩
theorem m_o_back (hB : p_B P) : m_mu P Q g_X5_back (o_back P Q) := by
  intro I hP
  have h3 := hB.2.2.2.1
  unfold g_X5_back o_back
  rw [mg_e, hP.2.2.2.1, i_z (by omega)]
  by_cases q : P 3 0 = 0
  · rw [if_pos q, if_pos q]
    exact ⟨I, rfl, hP⟩
  · rw [if_neg q, if_neg q, mg_e, hP.2.2.2.1, mp_e, pk_sub (by omega), mg_e, fw_u2_self]
    obtain ⟨p1, p2, p3, p4, p5, p6⟩ := hP
    refine ⟨_, rfl, p1, p2, p3, by dsimp only; rw [fw_u2_self, fw_u2_self], fun e he => ?_, p6⟩
    have he : e < fw_u2 P 3 0 (P 3 0 - 1) 3 0 := he
    rw [fw_u2_self] at he
    exact p5 e (by omega)
theorem m_o_event (hB : p_B P) (x y z : Int32) : m_mu P Q (g_X5_event x y z) (o_event P Q x y z) := by
  intro I hP
  have h3 := hB.2.2.2.1
  unfold g_X5_event o_event
  rcases bd_or x (N := 2) (by decide) with q | ⟨k, hk, rfl⟩
  · rw [if_pos q]
    exact ⟨I, by rw [m_threeB q, mc_e, if_pos n0], hP⟩
  rw [if_neg (bd_no hk (by decide)), oN_e (show k < 2 ^ 31 by omega), m_threeG hk, mc_e, if_neg n1]
  rcases bd_or y (N := 23) (by decide) with q | ⟨b, hb, rfl⟩
  · rw [if_pos q]
    exact ⟨I, by rw [m_beatB q, mc_e, if_pos n0], hP⟩
  rw [if_neg (bd_no hb (by decide)), oN_e (show b < 2 ^ 31 by omega), m_beatG hb, mc_e, if_neg n1]
  rcases bd_or z (N := 15) (by decide) with q | ⟨w, hw, rfl⟩
  · rw [if_pos q]
    exact ⟨I, by rw [m_inB q, mc_e, if_pos n0], hP⟩
  rw [if_neg (bd_no hw (by decide)), oN_e (show w < 2 ^ 31 by omega), m_inG hw (by decide), mc_e, if_neg n1, mg_e, hP.2.2.2.1, i_eq (by omega) (by decide)]
  by_cases q : P 3 0 = 8
  · rw [if_pos q, if_pos q]
    exact ⟨I, rfl, hP⟩
  rw [if_neg q, if_neg q]
  have e9 : I 0 9 = nI (P 3 0) := hP.2.2.2.1
  rw [mg_e, e9, mw_nI (by omega) (by decide), mg_e, fw_u2_ne _ _ (by omega), e9, mw_nI (by omega) (by decide), mg_e, fw_u2_ne _ _ (by omega), fw_u2_ne _ _ (by omega), e9, mw_nI (by omega) (by decide), mg_e, fw_u2_ne _ _ (by omega), fw_u2_ne _ _ (by omega), fw_u2_ne _ _ (by omega), e9, nI_add, mp_e, mg_e, fw_u2_self]
  obtain ⟨p1, p2, p3, p4, p5, p6⟩ := hP
  refine ⟨_, rfl, p1, p2, p3, by dsimp only; rw [fw_u2_self, fw_u2_self], fun e he => ?_, p6⟩
  have he : e < fw_u2 (fw_u2 (fw_u2 (fw_u2 P 4 (P 3 0) k) 5 (P 3 0) b) 6 (P 3 0) w) 3 0 (P 3 0 + 1) 3 0 := he
  rw [fw_u2_self] at he
  dsimp only
  simp only [fw_u2_at]
  by_cases z : e = P 3 0
  · simp [z]
  · have := p5 e (by omega)
    simp [z, this]
theorem m_o_seen (hB : p_B P) (x y : Int32) : m_mu P Q (g_X5_seen x y) (o_seen P Q x y) := by
  intro I hP
  have h7 := hB.2.2.2.2.2.1
  unfold g_X5_seen o_seen
  rcases bd_or x (N := 23) (by decide) with q | ⟨k, hk, rfl⟩
  · rw [if_pos q]
    exact ⟨I, by rw [m_beatB q, mc_e, if_pos n0], hP⟩
  rw [if_neg (bd_no hk (by decide)), oN_e (show k < 2 ^ 31 by omega), m_beatG hk, mc_e, if_neg n1]
  rcases bd_or y (N := 24) (by decide) with q | ⟨b, hb, rfl⟩
  · rw [if_pos q]
    exact ⟨I, by rw [m_inB q, mc_e, if_pos n0], hP⟩
  have e9 : I 0 37 = nI (P 7 0) := hP.2.2.2.2.2.1
  rw [if_neg (bd_no hb (by decide)), oN_e (show b < 2 ^ 31 by omega), m_inG hb (by decide), mc_e, if_neg n1, mg_e, e9, i_eq (by omega) (by decide)]
  by_cases q : P 7 0 = 8
  · rw [if_pos q, if_pos q]
    exact ⟨I, rfl, hP⟩
  rw [if_neg q, if_neg q]
  rw [mg_e, e9, mw_nI (by omega) (by decide), mg_e, fw_u2_ne _ _ (by omega), e9, mw_nI (by omega) (by decide), mg_e, fw_u2_ne _ _ (by omega), fw_u2_ne _ _ (by omega), e9, nI_add, mp_e, mg_e, fw_u2_self]
  obtain ⟨p1, p2, p3, p4, p5, p6, p7, p8⟩ := hP
  refine ⟨_, rfl, p1, p2, p3, p4, p5, by dsimp only; rw [fw_u2_self, fw_u2_self], fun e he => ?_, p8⟩
  have he : e < fw_u2 (fw_u2 (fw_u2 P 8 (P 7 0) k) 9 (P 7 0) b) 7 0 (P 7 0 + 1) 7 0 := he
  rw [fw_u2_self] at he
  dsimp only
  simp only [fw_u2_at]
  by_cases z : e = P 7 0
  · simp [z]
  · have := p7 e (by omega)
    simp [z, this]
theorem m_o_forget : m_mu P Q g_X5_forget (o_forget P Q) := by
  intro I hP
  unfold g_X5_forget o_forget
  rw [mg_e, mp_e, hP.2.2.2.2.2.1]
  obtain ⟨p1, p2, p3, p4, p5, p6, p7, p8⟩ := hP
  refine ⟨_, rfl, p1, p2, p3, p4, p5, by dsimp only; rw [fw_u2_self, fw_u2_self], fun e he => ?_, p8⟩
  have he : e < fw_u2 P 7 0 0 7 0 := he
  rw [fw_u2_self] at he
  omega
end Ss
