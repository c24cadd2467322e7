set_option maxRecDepth 100000
/-! The changing operations keep the bounds; the model reads a sheet. -/
section Sv
variable {P : CF} {Q : Nat → Int32}
theorem o_meets_B (hB : p_B P) {k : Nat} (hk : k ≤ 5) : p_B (o_meets P Q k).2.1 := hB.w (by refine ⟨?_, ?_, ?_, ?_, ?_, ?_, ?_, ?_, ?_, ?_, ?_, ?_, ?_, ?_⟩ <;> intros <;> omega)
theorem o_wipe_B (hB : p_B P) (x : Int32) : p_B (o_wipe P Q x).2.1 := by
  unfold o_wipe
  split
  · exact hB
  · exact hB.w (by refine ⟨?_, ?_, ?_, ?_, ?_, ?_, ?_, ?_, ?_, ?_, ?_, ?_, ?_, ?_⟩ <;> intros <;> omega)
theorem o_undo_B (hB : p_B P) (x : Int32) : p_B (o_undo P Q x).2.1 := by
  unfold o_undo
  split
  · exact hB
  · split
    · exact hB
    · have := hB.1 (oN x)
      refine hB.w ⟨fun _ => ?_, ?_, ?_, ?_, ?_, ?_, ?_, ?_, ?_, ?_, ?_, ?_, ?_, ?_⟩
      · omega
      all_goals (intros; omega)
theorem o_type_B (hB : p_B P) (x b : Int32) : p_B (o_type P Q x b).2.1 := by
  unfold o_type
  rcases bd_or x (N := 3) (by decide) with q | ⟨k, hk, rfl⟩
  · rw [if_pos q]
    exact hB
  rw [if_neg (bd_no hk (by decide)), oN_e (by omega)]
  rcases bd_or b (N := 255) (by decide) with q | ⟨y, hy, rfl⟩
  · rw [if_pos q]
    exact hB
  rw [if_neg (bd_no hy (by decide)), oN_e (by omega)]
  have h0 := hB.1 k
  by_cases q : P 0 k = (if 2 ≤ k then 24 else 31)
  · rw [if_pos q]
    exact hB
  · rw [if_neg q]
    refine p_B.w (hB.w (by refine ⟨?_, ?_, ?_, ?_, ?_, ?_, ?_, ?_, ?_, ?_, ?_, ?_, ?_, ?_⟩ <;> intros <;> omega)) ⟨fun _ => ?_, ?_, ?_, ?_, ?_, ?_, ?_, ?_, ?_, ?_, ?_, ?_, ?_, ?_⟩
    · by_cases z : k < 2
      · rw [if_pos z] at h0 ⊢
        rw [if_neg (show ¬ 2 ≤ k by omega)] at q
        omega
      · rw [if_neg z] at h0 ⊢
        rw [if_pos (show 2 ≤ k by omega)] at q
        omega
    all_goals (intros; omega)
theorem o_mud_B (hB : p_B P) (x : Int32) : p_B (o_mud P Q x).2.1 := by
  unfold o_mud
  rcases bd_or x (N := 9) (by decide) with q | ⟨k, hk, rfl⟩
  · rw [if_pos q]
    exact hB
  · rw [if_neg (bd_no hk (by decide)), oN_e (by omega)]
    exact hB.w (by refine ⟨?_, ?_, ?_, ?_, ?_, ?_, ?_, ?_, ?_, ?_, ?_, ?_, ?_, ?_⟩ <;> intros <;> omega)
theorem o_event_K (x y z : Int32) : (o_event P Q x y z).2.2 = Q ∧ ∀ j v, 7 ≤ j → (o_event P Q x y z).2.1 j v = P j v := by
  unfold o_event
  repeat' split
  all_goals first | exact ⟨rfl, fun _ _ _ => rfl⟩ | skip
  refine ⟨rfl, fun j v hj => ?_⟩
  dsimp only
  rw [fw_u2_ne _ _ (by omega), fw_u2_ne _ _ (by omega), fw_u2_ne _ _ (by omega), fw_u2_ne _ _ (by omega)]
theorem o_event_B (hB : p_B P) (x y z : Int32) : p_B (o_event P Q x y z).2.1 := by
  have h3 := hB.2.2.2.1
  unfold o_event
  rcases bd_or x (N := 2) (by decide) with q | ⟨k, hk, rfl⟩
  · rw [if_pos q]
    exact hB
  rw [if_neg (bd_no hk (by decide)), oN_e (show k < 2 ^ 31 by omega)]
  rcases bd_or y (N := 23) (by decide) with q | ⟨b, hb, rfl⟩
  · rw [if_pos q]
    exact hB
  rw [if_neg (bd_no hb (by decide)), oN_e (show b < 2 ^ 31 by omega)]
  rcases bd_or z (N := 15) (by decide) with q | ⟨w, hw, rfl⟩
  · rw [if_pos q]
    exact hB
  rw [if_neg (bd_no hw (by decide)), oN_e (show w < 2 ^ 31 by omega)]
  by_cases q : P 3 0 = 8
  · rw [if_pos q]
    exact hB
  · rw [if_neg q]
    exact p_B.w (p_B.w (p_B.w (p_B.w hB (by refine ⟨?_, ?_, ?_, ?_, ?_, ?_, ?_, ?_, ?_, ?_, ?_, ?_, ?_, ?_⟩ <;> intros <;> omega)) (by refine ⟨?_, ?_, ?_, ?_, ?_, ?_, ?_, ?_, ?_, ?_, ?_, ?_, ?_, ?_⟩ <;> intros <;> omega)) (by refine ⟨?_, ?_, ?_, ?_, ?_, ?_, ?_, ?_, ?_, ?_, ?_, ?_, ?_, ?_⟩ <;> intros <;> omega)) (by refine ⟨?_, ?_, ?_, ?_, ?_, ?_, ?_, ?_, ?_, ?_, ?_, ?_, ?_, ?_⟩ <;> intros <;> omega)
theorem o_back_B (hB : p_B P) : p_B (o_back P Q).2.1 := by
  have h3 := hB.2.2.2.1
  unfold o_back
  split
  · exact hB
  · exact hB.w (by refine ⟨?_, ?_, ?_, ?_, ?_, ?_, ?_, ?_, ?_, ?_, ?_, ?_, ?_, ?_⟩ <;> intros <;> omega)
theorem o_seen_B (hB : p_B P) (x y : Int32) : p_B (o_seen P Q x y).2.1 := by
  have h3 := hB.2.2.2.2.2.1
  unfold o_seen
  rcases bd_or x (N := 23) (by decide) with q | ⟨k, hk, rfl⟩
  · rw [if_pos q]
    exact hB
  rw [if_neg (bd_no hk (by decide)), oN_e (show k < 2 ^ 31 by omega)]
  rcases bd_or y (N := 24) (by decide) with q | ⟨b, hb, rfl⟩
  · rw [if_pos q]
    exact hB
  rw [if_neg (bd_no hb (by decide)), oN_e (show b < 2 ^ 31 by omega)]
  by_cases q : P 7 0 = 8
  · rw [if_pos q]
    exact hB
  · rw [if_neg q]
    exact p_B.w (p_B.w (p_B.w hB (by refine ⟨?_, ?_, ?_, ?_, ?_, ?_, ?_, ?_, ?_, ?_, ?_, ?_, ?_, ?_⟩ <;> intros <;> omega)) (by refine ⟨?_, ?_, ?_, ?_, ?_, ?_, ?_, ?_, ?_, ?_, ?_, ?_, ?_, ?_⟩ <;> intros <;> omega)) (by refine ⟨?_, ?_, ?_, ?_, ?_, ?_, ?_, ?_, ?_, ?_, ?_, ?_, ?_, ?_⟩ <;> intros <;> omega)
theorem o_forget_B (hB : p_B P) : p_B (o_forget P Q).2.1 := hB.w (by refine ⟨?_, ?_, ?_, ?_, ?_, ?_, ?_, ?_, ?_, ?_, ?_, ?_, ?_, ?_⟩ <;> intros <;> omega)
theorem o_rl_B (s : Nat) : ∀ (m i : Nat) (P : CF), p_B P → p_B (o_rl Q s m i P).2
  | 0, _, _, h => h
  | m + 1, i, P, h => by
    unfold o_rl
    split
    · exact h
    · dsimp only
      split
      · exact h
      · exact o_rl_B s m (i + 1) _ (o_event_B h _ _ _)
theorem o_read_B (hB : p_B P) (x : Int32) : p_B (o_read P Q x).2.1 := by
  unfold o_read
  split
  · exact hB
  · split
    · exact o_meets_B hB (by decide)
    · exact o_rl_B _ _ _ _ hB
theorem o_sheet_B (hB : p_B P) (x y z : Int32) : p_B (o_sheet P Q x y z).2.1 := by
  unfold o_sheet
  rcases bd_or x (N := 3) (by decide) with q | ⟨k, hk, rfl⟩
  · rw [if_pos q]
    exact hB
  rw [if_neg (bd_no hk (by decide)), oN_e (show k < 2 ^ 31 by omega)]
  rcases bd_or y (N := 2) (by decide) with q | ⟨b, hb, rfl⟩
  · rw [if_pos q]
    exact hB
  rw [if_neg (bd_no hb (by decide)), oN_e (show b < 2 ^ 31 by omega)]
  by_cases q : nI 60 < z
  · rw [if_pos q]
    exact hB
  by_cases q2 : z < 0
  · rw [if_neg q, if_pos q2]
    exact o_meets_B hB (by decide)
  rw [if_neg q, if_neg q2]
  rcases bd_or z (N := 60) (by decide) with (y | y) | ⟨n, hn, rfl⟩
  · rw [nI_0] at y
    exact absurd y q2
  · exact absurd y q
  · rw [oN_e (show n < 2 ^ 31 by omega)]
    exact p_B.w (p_B.w (p_B.w hB (by refine ⟨?_, ?_, ?_, ?_, ?_, ?_, ?_, ?_, ?_, ?_, ?_, ?_, ?_, ?_⟩ <;> intros <;> omega)) (by refine ⟨?_, ?_, ?_, ?_, ?_, ?_, ?_, ?_, ?_, ?_, ?_, ?_, ?_, ?_⟩ <;> intros <;> omega)) (by refine ⟨?_, ?_, ?_, ?_, ?_, ?_, ?_, ?_, ?_, ?_, ?_, ?_, ?_, ?_⟩ <;> intros <;> omega)
theorem o_lose_B (hB : p_B P) (x : Int32) : p_B (o_lose P Q x).2.1 := by
  unfold o_lose
  split
  · exact hB
  · split
    · exact o_meets_B hB (by decide)
    · exact hB.w (by refine ⟨?_, ?_, ?_, ?_, ?_, ?_, ?_, ?_, ?_, ?_, ?_, ?_, ?_, ?_⟩ <;> intros <;> omega)
theorem o_put_B (hB : p_B P) (x y z w : Int32) : p_B (o_put P Q x y z w).2.1 := by
  have hl := o_lk_le P (oN x) (oN y) z
  unfold o_put
  split
  · exact hB
  · split
    · exact hB
    · split
      · exact hB
      · exact o_meets_B hB (by omega)
theorem o_get_B (hB : p_B P) (x y z : Int32) : p_B (o_get P Q x y z).2.1 := by
  have hl := o_lk_le P (oN x) (oN y) z
  unfold o_get
  split
  · exact hB
  · split
    · exact hB
    · split
      · exact hB
      · exact hB.w (by refine ⟨?_, ?_, ?_, ?_, ?_, ?_, ?_, ?_, ?_, ?_, ?_, ?_, ?_, ?_⟩ <;> intros <;> omega)
theorem o_copy_B (hB : p_B P) (x a y b n : Int32) : p_B (o_copy P Q x a y b n).2.1 := by
  unfold o_copy
  repeat' split
  all_goals first | exact hB | exact o_meets_B hB (by decide)
theorem o_write_B (hB : p_B P) (x : Int32) : p_B (o_write P Q x).2.1 := by
  unfold o_write
  repeat' split
  all_goals first | exact hB | exact o_meets_B hB (by decide)
theorem m_r32 {s : Nat} (hs : s < 4) : ∀ (m i n : Nat), i + m = 20 → m < n → ∀ (P : CF) (I : MI), p_B P → m_P P Q I → P 10 s = 1 → ∃ I', g_X5_read_32 n (nI s) (nI i) (nI (60 * s)) I = some ((o_rl Q s m i P).1, I') ∧ m_P (o_rl Q s m i P).2 Q I' := by
  intro m
  induction m with
  | zero =>
    intro i n hi hn P I hB hP h10
    obtain ⟨n, rfl⟩ : ∃ q, n = q + 1 := ⟨n - 1, by omega⟩
    obtain ⟨e1, e2, e3⟩ := (hP.2.2.2.2.2.2.2.1 s hs).2 h10
    have h12 := (hB.2.2.2.2.2.2.2.1 s).2.2
    refine ⟨I, ?_, hP⟩
    unfold g_X5_read_32
    rw [md_nI (by omega) (by decide), e2, pk_mul, nI_add, if_pos (nI_le (by omega) (by omega))]
    rfl
  | succ m ih =>
    intro i n hi hn P I hB hP h10
    obtain ⟨n, rfl⟩ : ∃ q, n = q + 1 := ⟨n - 1, by omega⟩
    obtain ⟨e1, e2, e3⟩ := (hP.2.2.2.2.2.2.2.1 s hs).2 h10
    have h12 := (hB.2.2.2.2.2.2.2.1 s).2.2
    have st : o_rl Q s (m + 1) i P = if P 12 s ≤ 3 * i + 2 then (nI i, P) else if (o_event P Q (Q (60 * s + 3 * i)) (Q (60 * s + 3 * i + 1)) (Q (60 * s + 3 * i + 2))).1 ≤ 0 then (nI i, P) else o_rl Q s m (i + 1) (o_event P Q (Q (60 * s + 3 * i)) (Q (60 * s + 3 * i + 1)) (Q (60 * s + 3 * i + 2))).2.1 := rfl
    unfold g_X5_read_32
    rw [st, md_nI (by omega) (by decide), e2, pk_mul, nI_add, i_le (by omega) (by omega)]
    by_cases q : P 12 s ≤ 3 * i + 2
    · rw [if_pos q, if_pos q]
      exact ⟨I, rfl, hP⟩
    · obtain ⟨I1, a1, a2⟩ := m_o_event (Q := Q) hB (Q (60 * s + 3 * i)) (Q (60 * s + 3 * i + 1)) (Q (60 * s + 3 * i + 2)) I hP
      have hk := o_event_K (P := P) (Q := Q) (Q (60 * s + 3 * i)) (Q (60 * s + 3 * i + 1)) (Q (60 * s + 3 * i + 2))
      have hb := o_event_B (Q := Q) hB (Q (60 * s + 3 * i)) (Q (60 * s + 3 * i + 1)) (Q (60 * s + 3 * i + 2))
      rw [hk.1] at a2
      rw [if_neg q, if_neg q, nI_add, md_nI (by omega) (by decide), e3 (3 * i) (by omega), nI_add, md_nI (by omega) (by decide), show 60 * s + 3 * i + 1 = 60 * s + (3 * i + 1) by omega, e3 (3 * i + 1) (by omega), nI_add, md_nI (by omega) (by decide), show 60 * s + 3 * i + 2 = 60 * s + (3 * i + 2) by omega, e3 (3 * i + 2) (by omega)]
      rw [show 60 * s + 3 * i + 1 = 60 * s + (3 * i + 1) by omega, show 60 * s + 3 * i + 2 = 60 * s + (3 * i + 2) by omega] at a1 a2 hk hb
      rw [a1, mc_e]
      by_cases z : (o_event P Q (Q (60 * s + 3 * i)) (Q (60 * s + (3 * i + 1))) (Q (60 * s + (3 * i + 2)))).1 ≤ 0
      · rw [if_pos z, if_pos z]
        refine ⟨I1, rfl, ?_⟩
        have same : (o_event P Q (Q (60 * s + 3 * i)) (Q (60 * s + (3 * i + 1))) (Q (60 * s + (3 * i + 2)))).2.1 = P := by
          have h3 := hB.2.2.2.1
          revert z
          unfold o_event
          repeat' split
          all_goals first | exact fun _ => rfl | skip
          intro z
          exfalso
          have z : nI (P 3 0 + 1) ≤ 0 := z
          rw [nI_le0 (by omega)] at z
          omega
        rw [same] at a2
        exact a2
      · rw [if_neg z, if_neg z, nI_add]
        exact ih (i + 1) n (by omega) (by omega) _ I1 hb a2 (by rw [hk.2 10 s (by decide)]; exact h10)
theorem m_o_read (hB : p_B P) (x : Int32) : m_mu P Q (g_X5_read x) (o_read P Q x) := by
  intro I hP
  unfold g_X5_read o_read
  rcases bd_or x (N := 3) (by decide) with q | ⟨s, hs, rfl⟩
  · rw [if_pos q]
    exact ⟨I, by rw [m_sheetB q, mc_e, if_pos n0], hP⟩
  have hBs := hB.2.2.2.2.2.2.2.1 s
  rw [if_neg (bd_no hs (by decide)), oN_e (show s < 2 ^ 31 by omega), m_sheetG hs, mc_e, if_neg n1, md_nI (by omega) (by decide), (hP.2.2.2.2.2.2.2.1 s (by omega)).1, i_z (by omega)]
  by_cases q1 : P 10 s = 0
  · rw [if_pos q1, if_pos q1]
    obtain ⟨I1, a1, a2⟩ := m_meet hP 1
    exact ⟨I1, by rw [a1, mc_e], a2⟩
  · rw [if_neg q1, if_neg q1, pk_mul]
    exact m_r32 (by omega) 20 0 fw_fuel rfl (by decide) P I hB hP (by omega)
end Sv
