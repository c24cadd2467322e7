set_option maxRecDepth 100000
/-! The model: events that never were, events to spare. -/
section Ms
variable {P : CF} {Q : Nat → Int32}
theorem c_wg_B {C : CF} (hC : c_B C) (g : Int32) : c_B (c_wg C g) := hC
theorem m_CM.gone {C : CF} {I : MI} {g : Int32} (h : ∃ g0, m_CM (c_wg C g0) I) : m_CM (c_wg C g) (fw_u2 I 0 14 g) := by
  obtain ⟨g0, m1, m2, m3, m4, m5, m6, m7⟩ := h
  refine ⟨m1, m2, m3, m4, m5, fun x hx => ⟨(m6 x hx).1, (m6 x hx).2.1, (m6 x hx).2.2.1, ?_⟩, m7⟩
  rw [fw_u2_self]
  show _ ↔ (if bt g x = true then 1 else 0) ≠ 0
  by_cases q : bt g x = true
  · rw [if_pos q]
    exact ⟨fun _ => by decide, fun _ => q⟩
  · rw [if_neg q]
    exact ⟨fun z => absurd z q, fun z => absurd rfl z⟩
/-- as told, but for the events that are not -/
def m_G (P : CF) (Q : Nat → Int32) (I : MI) : Prop := m_P P Q I ∧ (∃ g0, m_CM (c_wg (c_to P) g0) I) ∧ ∀ k, k < 16 → I 13 k = nI (k % 8)
theorem c_to_g (P : CF) : c_wg (c_to P) 0 = c_to P := by
  funext j x
  show (if j = 10 then (if bt 0 x = true then 1 else 0) else c_to P j x) = c_to P j x
  by_cases q : j = 10
  · subst q
    rw [if_pos rfl, b_0, if_neg (by decide)]
    rfl
  · rw [if_neg q]
theorem m_G.o (hB : p_B P) {I : MI} (hP : m_P P Q I) : ∃ I', g_X5_asTold I = some ((), I') ∧ m_G P Q I' := by
  obtain ⟨I1, a1, a2, a3, a4, a5⟩ := m_told hB hP
  exact ⟨I1, a1, a2.1, ⟨0, by rw [c_to_g]; exact a3⟩, a4⟩
theorem m_G.f {I I' : MI} (h : m_G P Q I) (e : m_f (fun j _ => j = 24) I I') : m_G P Q I' := by
  obtain ⟨h1, ⟨g0, h2⟩, h3⟩ := h
  exact ⟨h1.f (e.m fun j x q => by omega), ⟨g0, h2.g fun j x q => e j x (by omega)⟩, fun k hk => by rw [e 13 k (by omega)]; exact h3 k hk⟩
theorem m_grun (hB : p_B P) {I : MI} (hG : m_G P Q I) (g : Int32) : ∃ I', g_X5_runs (fw_u2 I 0 14 g) = some ((), I') ∧ m_f (fun j x => m_v j x ∨ (j = 0 ∧ x = 14)) I I' ∧ m_G P Q I' ∧ m_S (c_rs (c_wg (c_to P) g) 24) I' ∧ m_CM (c_wg (c_to P) g) I' ∧ m_H (c_wg (c_to P) g) 24 I' := by
  obtain ⟨h1, h2, h3⟩ := hG
  have hM := m_CM.gone (g := g) h2
  have f0 : m_f (fun j x => j = 0 ∧ x = 14) I (fw_u2 I 0 14 g) := (m_f.r I).w ⟨rfl, rfl⟩
  obtain ⟨I1, r1, r2, r3, r4⟩ := m_runs (c_wg_B (c_to_B hB) g) hM (m_PL_to hB (fun k hk => by rw [f0 13 k (by omega)]; exact h3 k hk) (fun _ ht => c_to_0 ht) (fun _ _ => rfl) (Nat.le_refl 16))
  have f1 : m_f (fun j x => m_v j x ∨ (j = 0 ∧ x = 14)) I I1 := (f0.m fun j x q => Or.inr q).t (r2.m fun j x q => Or.inl q)
  exact ⟨I1, r1, f1, ⟨h1.f (f1.m fun j x q => by omega), ⟨g, hM.f r2⟩, fun k hk => by rw [f1 13 k (by omega)]; exact h3 k hk⟩, r3, hM.f r2, r4⟩
/-! never -/
abbrev v_np (P : CF) : Nat → Bool := fun e => v_se P (c_wg (c_to P) (v_b1 e))
theorem m_ne8 (hB : p_B P) : ∀ (m e n : Nat), e + m = P 3 0 → m < n → ∀ I : MI, m_G P Q I → ∃ I', g_X5_neverNow_8 n (v_bi (v_np P) e) (nI e) I = some (v_ne P (c_to P), I') ∧ m_P P Q I' := by
  have h3 := hB.2.2.2.1
  intro m
  induction m with
  | zero =>
    intro e n he hn I hG
    obtain ⟨n, rfl⟩ : ∃ q, n = q + 1 := ⟨n - 1, by omega⟩
    obtain rfl : e = P 3 0 := by omega
    refine ⟨I, ?_, hG.1⟩
    unfold g_X5_neverNow_8
    rw [mg_e, hG.1.2.2.2.1, if_pos (nI_le (Nat.le_refl _) (by omega))]
    rfl
  | succ m ih =>
    intro e n he hn I hG
    obtain ⟨n, rfl⟩ : ∃ q, n = q + 1 := ⟨n - 1, by omega⟩
    obtain ⟨g1, g2, g3⟩ := hG
    have hM := m_CM.gone (g := v_b1 e) g2
    have f0 : m_f (fun j x => j = 0 ∧ x = 14) I (fw_u2 I 0 14 (v_b1 e)) := (m_f.r I).w ⟨rfl, rfl⟩
    obtain ⟨I1, r1, r2, r3⟩ := m_isSeen hB (c_wg_B (c_to_B hB) _) hM (m_PL_to hB (fun k hk => by rw [f0 13 k (by omega)]; exact g3 k hk) (fun _ ht => c_to_0 ht) (fun _ _ => rfl) (Nat.le_refl 16)) (g1.f (f0.m fun j x q => by omega))
    have f1 : m_f (fun j x => m_v j x ∨ (j = 0 ∧ x = 14)) I I1 := (f0.m fun j x q => Or.inr q).t (r2.m fun j x q => Or.inl q)
    obtain ⟨I', q1, q2⟩ := ih (e + 1) n (by omega) (by omega) I1 ⟨g1.f (f1.m fun j x q => by omega), ⟨_, hM.f r2⟩, fun k hk => by rw [f1 13 k (by omega)]; exact g3 k hk⟩
    refine ⟨I', ?_, q2⟩
    unfold g_X5_neverNow_8
    rw [mg_e, g1.2.2.2.1, if_neg (nI_ge (by omega) (by omega)), mp_e]
    unfold v_b1 at r1
    rw [r1, mc_e]
    cases z : v_np P e with
    | false =>
      rw [show v_se P (c_wg (c_to P) (nI 1 <<< (nI e &&& 31))) = false from z, show b2 false = nI 0 from rfl, if_pos nI_0]
      unfold g_X5_neverNow_38
      rw [v_bi_s z] at q1
      rw [nI_add]
      exact q1
    | true =>
      rw [show v_se P (c_wg (c_to P) (nI 1 <<< (nI e &&& 31))) = true from z, show b2 true = nI 1 from rfl, if_neg (by decide)]
      unfold g_X5_neverNow_38
      rw [v_bi_s z] at q1
      rw [nI_add]
      exact q1
theorem m_neverNow (hB : p_B P) {I : MI} (hP : m_P P Q I) : ∃ I', g_X5_neverNow I = some (v_ne P (c_to P), I') ∧ m_P P Q I' := by
  obtain ⟨I1, a1, a2⟩ := m_G.o hB hP
  have h3 := hB.2.2.2.1
  obtain ⟨I', r1, r2⟩ := m_ne8 hB (P 3 0) 0 fw_fuel (by omega) (by unfold fw_fuel; omega) I1 a2
  rw [show v_bi (v_np P) 0 = nI 0 from rfl] at r1
  refine ⟨I', ?_, r2⟩
  unfold g_X5_neverNow
  rw [a1, mc_e]
  exact r1
/-! spare -/
theorem v_wi_1 (r : Nat) : v_wi r = nI 1 ↔ r ≤ 2 := by
  unfold v_wi
  split
  · constructor
    · intro h
      exact absurd h (by decide)
    · omega
  · split
    · next h => exact ⟨fun _ => h, fun _ => rfl⟩
    · next h => exact ⟨fun z => absurd z (by decide), fun z => absurd z h⟩
theorem m_isSpared (hB : p_B P) {I : MI} (hG : m_G P Q I) (g : Int32) : ∃ I', g_X5_isSpared g I = some (b2 (v_is (c_to P) g), I') ∧ m_G P Q I' ∧ m_f (fun j x => m_v j x ∨ (j = 0 ∧ x = 14)) I I' := by
  obtain ⟨I1, r1, r2, r3, r4, -, -⟩ := m_grun hB hG g
  refine ⟨I1, ?_, r3, r2⟩
  unfold g_X5_isSpared v_is
  rw [mp_e, r1, mc_e, mg_e, r4.2.2.1]
  show (if v_wi (c_ro (c_wg (c_to P) g)) = nI 1 then _ else _) = _
  by_cases q : c_ro (c_wg (c_to P) g) ≤ 2
  · rw [if_pos ((v_wi_1 _).2 q), decide_eq_false (fun z => z q)]
    rfl
  · rw [if_neg (fun z => q ((v_wi_1 _).1 z)), decide_eq_true q]
    rfl
abbrev v_q2 (P : CF) (a : Nat) : Nat → Bool := fun b => v_is (c_to P) (v_b1 a ||| v_b1 b)
theorem m_63 (hB : p_B P) {rec : Int32 → MI → Option (Int32 × MI)} {a : Nat} (ha : a < P 3 0) : ∀ (m b n : Nat), b + m = P 3 0 → m < n → ∀ I : MI, m_G P Q I →
    ∃ I', m_G P Q I' ∧ if v_fs (v_q2 P a) b m < P 3 0 then g_X5_spareBy_63 rec n (nI a) (nI b) I = some (nI 2, I') ∧ I' 24 0 = nI a ∧ I' 24 1 = nI (v_fs (v_q2 P a) b m) else g_X5_spareBy_63 rec n (nI a) (nI b) I = rec (nI (a + 1)) I' := by
  have h3 := hB.2.2.2.1
  intro m
  induction m with
  | zero =>
    intro b n hb hn I hG
    obtain ⟨n, rfl⟩ : ∃ q, n = q + 1 := ⟨n - 1, by omega⟩
    obtain rfl : b = P 3 0 := by omega
    refine ⟨I, hG, ?_⟩
    rw [if_neg (show ¬ v_fs (v_q2 P a) (P 3 0) 0 < P 3 0 from Nat.lt_irrefl _)]
    unfold g_X5_spareBy_63
    rw [mg_e, hG.1.2.2.2.1, if_pos (nI_le (Nat.le_refl _) (by omega)), nI_add]
  | succ m ih =>
    intro b n hb hn I hG
    obtain ⟨n, rfl⟩ : ∃ q, n = q + 1 := ⟨n - 1, by omega⟩
    have f0 : m_f (fun j _ => j = 24) I (fw_u2 (fw_u2 I 24 0 (nI a)) 24 1 (nI b)) := m_f.w (m_f.w (m_f.r I) (j := 24) (x := 0) rfl) (j := 24) (x := 1) rfl
    obtain ⟨I1, r1, r2, r3⟩ := m_isSpared hB (hG.f f0) (v_b1 a ||| v_b1 b)
    obtain ⟨I2, q1, q2⟩ := ih (b + 1) n (by omega) (by omega) I1 r2
    have st : g_X5_spareBy_63 rec (n + 1) (nI a) (nI b) I = if b2 (v_q2 P a b) = 0 then g_X5_spareBy_63 rec n (nI a) (nI (b + 1)) I1 else some (nI 2, I1) := by
      unfold v_b1 at r1
      rw [show g_X5_spareBy_63 rec (n + 1) (nI a) (nI b) I = mg I 9 fun v1 => if v1 ≤ nI b then rec (nI a + nI 1) I else mw 2 24 (nI 0) (nI a) I fun I4 => mw 2 24 (nI 1) (nI b) I4 fun I7 => mc (g_X5_isSpared ((nI 1 <<< (nI a &&& 31)) ||| (nI 1 <<< (nI b &&& 31))) I7) fun v9 I8 => if v9 = 0 then g_X5_spareBy_63 rec n (nI a) (nI b + nI 1) I8 else some (nI 2, I8) from rfl]
      rw [mg_e, hG.1.2.2.2.1, if_neg (nI_ge (by omega) (by omega)), mw_nI (by decide) (by decide), mw_nI (by decide) (by decide), r1, mc_e, nI_add]
      rfl
    have fs : v_fs (v_q2 P a) b (m + 1) = if v_q2 P a b = true then b else v_fs (v_q2 P a) (b + 1) m := rfl
    rw [fs]
    cases z : v_q2 P a b with
    | true =>
      rw [z, show b2 true = nI 1 from rfl, if_neg (by decide)] at st
      refine ⟨I1, r2, ?_⟩
      rw [if_pos rfl, if_pos (by omega)]
      refine ⟨st, ?_, ?_⟩
      · rw [r3 24 0 (by omega), fw_u2_ne _ _ (by omega), fw_u2_self]
      · rw [r3 24 1 (by omega), fw_u2_self]
    | false =>
      rw [z, show b2 false = nI 0 from rfl, if_pos nI_0] at st
      refine ⟨I2, q1, ?_⟩
      rw [if_neg (show ¬ (false = true) by decide), st]
      exact q2
theorem m_51 (hB : p_B P) : ∀ (m n : Nat), m ≤ P 3 0 → m < n → ∀ I : MI, m_G P Q I →
    ∃ I', m_G P Q I' ∧ match v_s2 (c_to P) (P 3 0) m with
      | none => g_X5_spareBy_51 n (nI (P 3 0 - m)) I = some (-nI 1, I')
      | some q => g_X5_spareBy_51 n (nI (P 3 0 - m)) I = some (nI 2, I') ∧ I' 24 0 = nI q.1 ∧ I' 24 1 = nI q.2 := by
  have h3 := hB.2.2.2.1
  intro m
  induction m with
  | zero =>
    intro n hm hn I hG
    obtain ⟨n, rfl⟩ : ∃ q, n = q + 1 := ⟨n - 1, by omega⟩
    refine ⟨I, hG, ?_⟩
    show g_X5_spareBy_51 (n + 1) (nI (P 3 0 - 0)) I = some (-nI 1, I)
    unfold g_X5_spareBy_51
    rw [mg_e, hG.1.2.2.2.1, if_pos (nI_le (by omega) (by omega))]
  | succ m ih =>
    intro n hm hn I hG
    obtain ⟨n, rfl⟩ : ∃ q, n = q + 1 := ⟨n - 1, by omega⟩
    obtain ⟨I1, r1, r2⟩ := m_63 hB (rec := g_X5_spareBy_51 n) (a := P 3 0 - (m + 1)) (by omega) (P 3 0 - (P 3 0 - (m + 1) + 1)) (P 3 0 - (m + 1) + 1) fw_fuel (by omega) (by unfold fw_fuel; omega) I hG
    have st : g_X5_spareBy_51 (n + 1) (nI (P 3 0 - (m + 1))) I = g_X5_spareBy_63 (g_X5_spareBy_51 n) fw_fuel (nI (P 3 0 - (m + 1))) (nI (P 3 0 - (m + 1) + 1)) I := by
      rw [show g_X5_spareBy_51 (n + 1) (nI (P 3 0 - (m + 1))) I = mg I 9 fun v1 => if v1 ≤ nI (P 3 0 - (m + 1)) then some (-nI 1, I) else g_X5_spareBy_63 (g_X5_spareBy_51 n) fw_fuel (nI (P 3 0 - (m + 1))) (nI (P 3 0 - (m + 1)) + nI 1) I from rfl]
      rw [mg_e, hG.1.2.2.2.1, if_neg (nI_ge (by omega) (by omega)), nI_add]
    rw [← st] at r2
    have s2 : v_s2 (c_to P) (P 3 0) (m + 1) = if v_fs (v_q2 P (P 3 0 - (m + 1))) (P 3 0 - (m + 1) + 1) (P 3 0 - (P 3 0 - (m + 1) + 1)) < P 3 0 then some (P 3 0 - (m + 1), v_fs (v_q2 P (P 3 0 - (m + 1))) (P 3 0 - (m + 1) + 1) (P 3 0 - (P 3 0 - (m + 1) + 1))) else v_s2 (c_to P) (P 3 0) m := rfl
    rw [s2]
    by_cases q : v_fs (v_q2 P (P 3 0 - (m + 1))) (P 3 0 - (m + 1) + 1) (P 3 0 - (P 3 0 - (m + 1) + 1)) < P 3 0
    · rw [if_pos q] at r2 ⊢
      exact ⟨I1, r1, r2⟩
    · rw [if_neg q] at r2 ⊢
      obtain ⟨I2, q1, q2⟩ := ih n (by omega) (by omega) I1 r1
      rw [show P 3 0 - m = P 3 0 - (m + 1) + 1 by omega, ← r2] at q2
      exact ⟨I2, q1, q2⟩
abbrev v_q1 (P : CF) : Nat → Bool := fun a => v_is (c_to P) (v_b1 a)
theorem m_s16 (hB : p_B P) : ∀ (m a n : Nat), a + m = P 3 0 → m < n → ∀ I : MI, m_G P Q I →
    ∃ I', m_G P Q I' ∧ if v_fs (v_q1 P) a m < P 3 0 then g_X5_spareBy_16 n (nI a) I = some (nI 1, I') ∧ I' 24 0 = nI (v_fs (v_q1 P) a m) else g_X5_spareBy_16 n (nI a) I = g_X5_spareBy_51 fw_fuel (nI 0) I' := by
  have h3 := hB.2.2.2.1
  intro m
  induction m with
  | zero =>
    intro a n ha hn I hG
    obtain ⟨n, rfl⟩ : ∃ q, n = q + 1 := ⟨n - 1, by omega⟩
    obtain rfl : a = P 3 0 := by omega
    refine ⟨I, hG, ?_⟩
    rw [if_neg (show ¬ v_fs (v_q1 P) (P 3 0) 0 < P 3 0 from Nat.lt_irrefl _)]
    unfold g_X5_spareBy_16
    rw [mg_e, hG.1.2.2.2.1, if_pos (nI_le (Nat.le_refl _) (by omega))]
  | succ m ih =>
    intro a n ha hn I hG
    obtain ⟨n, rfl⟩ : ∃ q, n = q + 1 := ⟨n - 1, by omega⟩
    have f0 : m_f (fun j _ => j = 24) I (fw_u2 I 24 0 (nI a)) := m_f.w (m_f.r I) (j := 24) (x := 0) rfl
    obtain ⟨I1, r1, r2, r3⟩ := m_isSpared hB (hG.f f0) (v_b1 a)
    obtain ⟨I2, q1, q2⟩ := ih (a + 1) n (by omega) (by omega) I1 r2
    have st : g_X5_spareBy_16 (n + 1) (nI a) I = if b2 (v_q1 P a) = 0 then g_X5_spareBy_16 n (nI (a + 1)) I1 else some (nI 1, I1) := by
      unfold v_b1 at r1
      rw [show g_X5_spareBy_16 (n + 1) (nI a) I = mg I 9 fun v1 => if v1 ≤ nI a then g_X5_spareBy_51 fw_fuel (nI 0) I else mw 2 24 (nI 0) (nI a) I fun I4 => mc (g_X5_isSpared (nI 1 <<< (nI a &&& 31)) I4) fun v6 I5 => if v6 = 0 then g_X5_spareBy_16 n (nI a + nI 1) I5 else some (nI 1, I5) from rfl]
      rw [mg_e, hG.1.2.2.2.1, if_neg (nI_ge (by omega) (by omega)), mw_nI (by decide) (by decide), r1, mc_e, nI_add]
      rfl
    have fs : v_fs (v_q1 P) a (m + 1) = if v_q1 P a = true then a else v_fs (v_q1 P) (a + 1) m := rfl
    rw [fs]
    cases z : v_q1 P a with
    | true =>
      rw [z, show b2 true = nI 1 from rfl, if_neg (by decide)] at st
      refine ⟨I1, r2, ?_⟩
      rw [if_pos rfl, if_pos (by omega)]
      exact ⟨st, by rw [r3 24 0 (by omega), fw_u2_self]⟩
    | false =>
      rw [z, show b2 false = nI 0 from rfl, if_pos nI_0] at st
      refine ⟨I2, q1, ?_⟩
      rw [if_neg (show ¬ (false = true) by decide), st]
      exact q2
theorem m_spare (hB : p_B P) {I : MI} (hP : m_P P Q I) {i : Int32} (hi : i = -nI 1 ∨ i = nI 0 ∨ i = nI 1) :
    ∃ I', (mc (g_X5_spareBy I) fun v I3 => mc (g_X5_ofRow v i I3) fun v6 I5 => some (v6, I5)) = some (v_sr (c_to P) (P 3 0) i, I') ∧ m_P P Q I' := by
  have h3 := hB.2.2.2.1
  obtain ⟨I1, a1, a2⟩ := m_G.o hB hP
  obtain ⟨I2, b1, b3, -⟩ := m_isSpared hB a2 (nI 0)
  unfold g_X5_spareBy v_sr
  rw [a1, mc_e, b1, mc_e]
  have h0 : (nI 0 : Int32) = 0 := nI_0
  rw [h0]
  cases z : v_is (c_to P) 0 with
  | true =>
    rw [show b2 true = nI 1 from rfl, if_neg (by decide), mc_e, if_pos rfl]
    refine ⟨I2, ?_, b3.1⟩
    unfold g_X5_ofRow
    rcases hi with e | e | e <;> subst e
    · rw [if_pos rfl, mc_e, if_pos rfl]
    · rw [if_neg (by decide), if_pos (by decide), mc_e, if_neg (by decide)]
    · rw [if_neg (by decide), if_pos (by decide), mc_e, if_neg (by decide)]
  | false =>
    rw [show b2 false = nI 0 from rfl, if_pos nI_0, if_neg (by decide)]
    obtain ⟨I3, c1, c2⟩ := m_s16 hB (P 3 0) 0 fw_fuel (by omega) (by unfold fw_fuel; omega) I2 b3
    rw [nI_0] at c2
    by_cases q : v_fs (v_q1 P) 0 (P 3 0) < P 3 0
    · rw [if_pos q] at c2 ⊢
      rw [c2.1, mc_e]
      refine ⟨I3, ?_, c1.1⟩
      unfold g_X5_ofRow
      rcases hi with e | e | e <;> subst e
      · rw [if_pos rfl, mc_e, if_pos rfl]
      · rw [if_neg (by decide), if_neg (by decide), md_nI (by decide) (by decide), mc_e, if_neg (by decide), c2.2]
        exact congrArg (fun z => some (z, I3)) (if_pos nI_0.symm).symm
      · rw [if_neg (by decide), if_pos (by decide), mc_e, if_neg (by decide)]
        exact congrArg (fun z => some (z, I3)) (if_neg (by decide)).symm
    · rw [if_neg q] at c2 ⊢
      rw [c2]
      obtain ⟨I4, d1, d2⟩ := m_51 hB (P 3 0) fw_fuel (Nat.le_refl _) (by unfold fw_fuel; omega) I3 c1
      rw [Nat.sub_self, nI_0] at d2
      cases y : v_s2 (c_to P) (P 3 0) (P 3 0) with
      | none =>
        rw [y] at d2
        rw [show g_X5_spareBy_51 fw_fuel 0 I3 = some (-nI 1, I4) from d2, mc_e]
        refine ⟨I4, ?_, d1.1⟩
        unfold g_X5_ofRow
        rcases hi with e | e | e <;> subst e
        · rw [if_pos rfl, mc_e]
        · rw [if_neg (by decide), if_pos (by decide), mc_e]
        · rw [if_neg (by decide), if_pos (by decide), mc_e]
      | some ab =>
        obtain ⟨a, b⟩ := ab
        rw [y] at d2
        rw [show g_X5_spareBy_51 fw_fuel 0 I3 = some (nI 2, I4) from d2.1, mc_e]
        refine ⟨I4, ?_, d1.1⟩
        unfold g_X5_ofRow
        rcases hi with e | e | e <;> subst e
        · rw [if_pos rfl, mc_e]
          exact congrArg (fun z => some (z, I4)) (if_pos rfl).symm
        · rw [if_neg (by decide), if_neg (by decide), md_nI (by decide) (by decide), mc_e, d2.2.1]
          exact congrArg (fun z => some (z, I4)) ((if_neg (by decide)).trans (if_pos nI_0.symm)).symm
        · rw [if_neg (by decide), if_neg (by decide), md_nI (by decide) (by decide), mc_e, d2.2.2]
          exact congrArg (fun z => some (z, I4)) ((if_neg (by decide)).trans (if_neg (by decide))).symm
end Ms
