set_option maxRecDepth 100000
/-! The model's beats give what the configuration says. -/
theorem md_nI {γ : Type} {n j i : Nat} {I : MI} {k : Int32 → Option γ} (h : i < n) (hn : n ≤ 1000000) : md n j (nI i) I k = k (I j i) := by
  unfold md
  rw [if_pos (nI_in h (by omega)), nI_clamp (by omega)]
theorem mw_nI {γ : Type} {n j i : Nat} {v : Int32} {I : MI} {k : MI → Option γ} (h : i < n) (hn : n ≤ 1000000) : mw n j (nI i) v I k = k (fw_u2 I j i v) := by
  unfold mw
  rw [if_pos (nI_in h (by omega)), nI_clamp (by omega)]
theorem mg_e {γ : Type} (I : MI) (s : Nat) (k : Int32 → Option γ) : mg I s k = k (I 0 s) := rfl
theorem mp_e {γ : Type} (I : MI) (s : Nat) (v : Int32) (k : MI → Option γ) : mp I s v k = k (fw_u2 I 0 s v) := rfl
theorem mc_e {α γ : Type} (v : α) (I : MI) (k : α → MI → Option γ) : mc (some (v, I)) k = k v I := rfl
theorem mb_e {γ : Type} {v : Int32} (k : Option γ) (h : v = 0 ∨ v = 1) : mb v k = k := if_pos h
abbrev m_v1 : Nat → Nat → Prop := fun j x => j = 0 ∧ 18 ≤ x ∧ x ≤ 20
abbrev m_v2 : Nat → Nat → Prop := fun j x => j = 0 ∧ 21 ≤ x ∧ x ≤ 24
abbrev m_v : Nat → Nat → Prop := fun j x => (14 ≤ j ∧ j ≤ 23) ∨ (j = 0 ∧ 18 ≤ x ∧ x ≤ 24)
abbrev m_v3 : Nat → Nat → Prop := fun j _ => 15 ≤ j ∧ j ≤ 18
abbrev m_v4 : Nat → Nat → Prop := fun j _ => 14 ≤ j ∧ j ≤ 16
theorem m_nv {j x : Nat} (h1 : j < 14 ∨ 23 < j) (h2 : j ≠ 0 ∨ x < 18 ∨ 24 < x) : ¬ m_v j x := by
  intro h
  rcases h with h | h <;> omega
/-- the model's ints hold the configuration -/
def m_CM (C : CF) (I : MI) : Prop :=
  (∀ t, t < 2 → I 3 t = nI (C 0 t)) ∧ (∀ k, c_th C k → I 4 k = nI (C 1 k) ∧ I 5 k = nI (C 2 k) ∧ I 6 k = nI (C 3 k)) ∧
  (∀ x, x < 48 → I 12 x = nI (C 4 x)) ∧ I 0 8 = nI (C 5 0) ∧ I 0 9 = nI (C 6 0) ∧
  (∀ e, e < C 6 0 → I 9 e = nI (C 7 e) ∧ I 10 e = nI (C 8 e) ∧ I 11 e = nI (C 9 e) ∧ (bt (I 0 14) e = true ↔ C 10 e ≠ 0)) ∧
  (∀ k, k < 16 → (nI k = I 0 16 ↔ C 12 0 = k))
theorem m_CM.f {C : CF} {I I' : MI} (h : m_CM C I) (e : m_f m_v I I') : m_CM C I' := by
  refine ⟨fun t ht => (e 3 t (m_nv (by omega) (by omega))).trans (h.1 t ht), fun k hk => ⟨(e 4 k (m_nv (by omega) (by omega))).trans (h.2.1 k hk).1, (e 5 k (m_nv (by omega) (by omega))).trans (h.2.1 k hk).2.1, (e 6 k (m_nv (by omega) (by omega))).trans (h.2.1 k hk).2.2⟩, fun x hx => (e 12 x (m_nv (by omega) (by omega))).trans (h.2.2.1 x hx), (e 0 8 (m_nv (by omega) (by omega))).trans h.2.2.2.1, (e 0 9 (m_nv (by omega) (by omega))).trans h.2.2.2.2.1, fun x hx => ?_, fun k hk => ?_⟩
  · have := h.2.2.2.2.2.1 x hx
    rw [e 9 x (m_nv (by omega) (by omega)), e 10 x (m_nv (by omega) (by omega)), e 11 x (m_nv (by omega) (by omega)), e 0 14 (m_nv (by omega) (by omega))]
    exact this
  · rw [e 0 16 (m_nv (by omega) (by omega))]
    exact h.2.2.2.2.2.2 k hk
/-- who is last of a team -/
def m_LM (C : CF) (I : MI) : Prop := ∀ k, c_he C k → (I 14 (k / 8) = nI k ↔ C 11 (k / 8) = k)
theorem m_LM.f {C : CF} {I I' : MI} (h : m_LM C I) (e : ∀ t, I' 14 t = I 14 t) : m_LM C I' := fun k hk => by rw [e]; exact h k hk
theorem m_isIn (x : Int32) {k : Nat} (hk : k < 32) (I : MI) : g_X5_isIn x (nI k) I = some (if bt x k = true then nI 1 else nI 0, I) := by
  unfold g_X5_isIn
  by_cases h : bt x k = true
  · rw [if_pos ((bt_in x hk).mpr h), if_pos h]
  · rw [if_neg (fun q => h ((bt_in x hk).mp q)), if_neg h]
theorem m_in {a b c : Nat} (ha : a < 2 ^ 31) (hb : b < 2 ^ 31) (hc : c < 2 ^ 31) (I : MI) : g_X5_in (nI a) (nI b) (nI c) I = some (if b ≤ a ∧ a ≤ c then nI 1 else nI 0, I) := by
  unfold g_X5_in
  rw [i_lt ha hb, i_lt hc ha]
  by_cases h1 : a < b
  · rw [if_pos h1, if_neg (by omega)]
  · rw [if_neg h1]
    by_cases h2 : c < a
    · rw [if_pos h2, if_neg (by omega)]
    · rw [if_neg h2, if_pos (by omega)]
theorem m_there {C : CF} {I : MI} (hC : c_B C) (hM : m_CM C I) {k : Nat} (hk : k < 16) : g_X5_isThereOne (nI k) I = some (if k % 8 < C 0 (k / 8) then nI 1 else nI 0, I) := by
  have h0 := hC.1 (k / 8)
  have e := hM.1 (k / 8) (by omega)
  unfold g_X5_isThereOne
  rw [m_in (by omega) (by decide) (by decide), if_pos (by omega), mc_e, if_neg (by decide), pk_rem (by omega) (by decide) (by decide), pk_div (by omega) (by decide) (by decide), md_nI (by omega) (by decide), e, i_le (by omega) (by omega)]
  by_cases h : k % 8 < C 0 (k / 8)
  · rw [if_neg (by omega), if_pos h]
  · rw [if_pos (by omega), if_neg h]
theorem m_here {C : CF} {I : MI} (hC : c_B C) (hM : m_CM C I) {k : Nat} (hk : k < 16) : g_X5_isHere (nI k) I = some (if c_he C k then nI 1 else nI 0, I) := by
  unfold g_X5_isHere
  rw [m_there hC hM hk, mc_e]
  by_cases h : k % 8 < C 0 (k / 8)
  · rw [if_pos h, if_neg (by decide), mg_e]
    by_cases h2 : C 12 0 = k
    · rw [if_pos ((hM.2.2.2.2.2.2 k hk).mpr h2), if_neg (fun q => q.2 h2)]
    · rw [if_neg (fun q => h2 ((hM.2.2.2.2.2.2 k hk).mp q)), if_pos ⟨⟨hk, h⟩, h2⟩]
  · rw [if_neg h, if_pos nI_0, if_neg (fun q => h q.1.2)]
/-! what befalls -/
theorem m_befalls_12 {C : CF} (hC : c_B C) {b w : Nat} (hb : b < 24) (hw : w ≤ 9) : ∀ (m e n : Nat), e + m = C 6 0 → m < n → ∀ I : MI, m_CM C I → I 0 18 = nI (c_rn C b w e) → I 0 19 = nI (if c_any (fun e => c_ev C 2 b e) e = true then 1 else 0) → (∀ k, k < 16 → bt (I 0 20) k = c_any (fun e => c_ev C 0 b e && C 9 e == k) e) →
    ∃ I', g_X5_befalls_12 n (nI b) (nI e) I = some ((), I') ∧ m_f m_v1 I I' ∧ I' 0 18 = nI (c_rn C b w (C 6 0)) ∧ I' 0 19 = nI (if c_dg C b = true then 1 else 0) ∧ (∀ k, k < 16 → bt (I' 0 20) k = c_sl C b k) := by
  intro m
  induction m with
  | zero =>
    intro e n he hn I hM h18 h19 h20
    obtain ⟨n, rfl⟩ : ∃ q, n = q + 1 := ⟨n - 1, by omega⟩
    have h8 := hC.2.2.2.2.1
    obtain rfl : e = C 6 0 := by omega
    refine ⟨I, ?_, m_f.r I, h18, h19, h20⟩
    unfold g_X5_befalls_12
    rw [mg_e, hM.2.2.2.2.1, if_pos (nI_le (Nat.le_refl _) (by omega))]
  | succ m ih =>
    intro e n he hn I hM h18 h19 h20
    obtain ⟨n, rfl⟩ : ∃ q, n = q + 1 := ⟨n - 1, by omega⟩
    have h8 := hC.2.2.2.2.1
    obtain ⟨k9, k10, k11, k14⟩ := hM.2.2.2.2.2.1 e (by omega)
    have hE := hC.2.2.2.2.2 e
    have hr := c_rn_le (C := C) (b := b) hw e
    unfold g_X5_befalls_12
    rw [mg_e, hM.2.2.2.2.1, if_neg (nI_ge (by omega) (by omega)), md_nI (by omega) (by decide), k10]
    -- one event more
    have step : ∀ J : MI, m_f m_v1 I J → J 0 18 = nI (c_rn C b w (e + 1)) → J 0 19 = nI (if c_any (fun e => c_ev C 2 b e) (e + 1) = true then 1 else 0) → (∀ k, k < 16 → bt (J 0 20) k = c_any (fun e => c_ev C 0 b e && C 9 e == k) (e + 1)) → ∃ I', g_X5_befalls_12 n (nI b) (nI e + nI 1) J = some ((), I') ∧ m_f m_v1 I I' ∧ I' 0 18 = nI (c_rn C b w (C 6 0)) ∧ I' 0 19 = nI (if c_dg C b = true then 1 else 0) ∧ (∀ k, k < 16 → bt (I' 0 20) k = c_sl C b k) := by
      intro J hJ j18 j19 j20
      rw [nI_add]
      obtain ⟨I', r1, r2, r3⟩ := ih (e + 1) n (by omega) (by omega) J (hM.f (hJ.m (fun j x q => Or.inr ⟨q.1, q.2.1, by have := q.2.2; omega⟩))) j18 j19 j20
      exact ⟨I', r1, hJ.t r2, r3⟩
    have no : (∀ kd, c_ev C kd b e = false) → ∃ I', g_X5_befalls_12 n (nI b) (nI e + nI 1) I = some ((), I') ∧ m_f m_v1 I I' ∧ I' 0 18 = nI (c_rn C b w (C 6 0)) ∧ I' 0 19 = nI (if c_dg C b = true then 1 else 0) ∧ (∀ k, k < 16 → bt (I' 0 20) k = c_sl C b k) := by
      intro hno
      refine step I (m_f.r I) ?_ ?_ (fun k hk => ?_)
      · rw [h18, show c_rn C b w (e + 1) = (if c_ev C 1 b e = true then min (c_rn C b w e + 1) 9 else c_rn C b w e) from rfl, hno 1]; rfl
      · rw [h19]; show _ = nI (if (c_any _ e || c_ev C 2 b e) = true then 1 else 0); rw [hno 2, Bool.or_false]
      · rw [h20 k hk]; show _ = (c_any _ e || (c_ev C 0 b e && C 9 e == k)); rw [hno 0, Bool.false_and, Bool.or_false]
    by_cases hb8 : C 8 e = b
    · rw [if_pos (by rw [hb8]), mg_e, m_isIn _ (by omega), mc_e]
      by_cases hg : C 10 e = 0
      · have hbt : ¬ bt (I 0 14) e = true := fun q => k14.mp q hg
        have hev : ∀ kd, c_ev C kd b e = (C 7 e == kd) := fun kd => by unfold c_ev; simp [hb8, hg]
        rw [if_neg hbt, if_pos nI_0, mg_e, md_nI (by omega) (by decide), k9, i_z (by omega)]
        -- the three kinds
        have e67 : ∀ (s0 : Int32) (W d : Nat), C 7 e = 0 ∧ W = c_rn C b w e ∧ d = (if c_any (fun e => c_ev C 2 b e) e = true then 1 else 0) ∨ C 7 e = 1 ∧ W = min (c_rn C b w e + 1) 9 ∧ d = (if c_any (fun e => c_ev C 2 b e) e = true then 1 else 0) ∨ C 7 e = 2 ∧ W = c_rn C b w e ∧ d = 1 →
            g_X5_befalls_67 (g_X5_befalls_12 n) (nI b) (nI e) s0 (I 0 20) I = g_X5_befalls_12 n (nI b) (nI e + nI 1) (fw_u2 (fw_u2 (fw_u2 I 0 20 (I 0 20 ||| s0)) 0 18 (nI W)) 0 19 (nI d)) := by
          intro s0 W d hk
          have he8 : e < 8 := by omega
          unfold g_X5_befalls_67 g_X5_befalls_99 g_X5_befalls_100 g_X5_befalls_123 g_X5_befalls_126
          rcases hk with ⟨q, rfl, rfl⟩ | ⟨q, rfl, rfl⟩ | ⟨q, rfl, rfl⟩
          · simp [mp_e, mg_e, md_nI he8, fw_u2_at, k9, h18, h19, q, nI_eq, nI_add]
          · by_cases h9 : 9 ≤ c_rn C b w e
            · rw [show min (c_rn C b w e + 1) 9 = c_rn C b w e by omega]
              simp [mp_e, mg_e, md_nI he8, fw_u2_at, k9, h18, h19, q, nI_eq, nI_add, nI_leI (show 9 < 2 ^ 31 by decide) (show c_rn C b w e < 2 ^ 31 by omega), h9]
            · rw [show min (c_rn C b w e + 1) 9 = c_rn C b w e + 1 by omega]
              simp [mp_e, mg_e, md_nI he8, fw_u2_at, k9, h18, h19, q, nI_eq, nI_add, nI_leI (show 9 < 2 ^ 31 by decide) (show c_rn C b w e < 2 ^ 31 by omega), h9]
          · simp [mp_e, mg_e, md_nI he8, fw_u2_at, k9, h18, h19, q, nI_eq, nI_add]
        have hJ : ∀ (s0 : Int32) (W d : Nat), m_f m_v1 I (fw_u2 (fw_u2 (fw_u2 I 0 20 (I 0 20 ||| s0)) 0 18 (nI W)) 0 19 (nI d)) := fun s0 W d => (((m_f.r I).w (show m_v1 0 20 by simp [m_v1])).w (show m_v1 0 18 by simp [m_v1])).w (show m_v1 0 19 by simp [m_v1])
        have b0 : ∀ i, bt (nI 0) i = false := fun i => by rw [nI_0]; exact b_0 i
        rcases (show C 7 e = 0 ∨ C 7 e = 1 ∨ C 7 e = 2 by omega) with h7 | h7 | h7
        · rw [if_pos h7, md_nI (by omega) (by decide), k11, e67 _ _ _ (Or.inl ⟨h7, rfl, rfl⟩)]
          refine step _ (hJ _ _ _) ?_ ?_ (fun k hk => ?_)
          · simp [fw_u2_at, c_rn, hev, h7]
          · simp [fw_u2_at, c_any, hev, h7]
          · have hbo := bt_one (show C 9 e < 32 by omega) (show k < 32 by omega)
            by_cases q : C 9 e = k
            · rw [q] at hbo
              simp [fw_u2_at, c_any, hev, h7, b_or, h20 k hk, hbo, q]
            · simp [fw_u2_at, c_any, hev, h7, b_or, h20 k hk, hbo, q, show ¬ k = C 9 e from fun z => q z.symm]
        · rw [if_neg (by omega), e67 _ _ _ (Or.inr (Or.inl ⟨h7, rfl, rfl⟩))]
          refine step _ (hJ _ _ _) ?_ ?_ (fun k hk => ?_)
          · simp [fw_u2_at, c_rn, hev, h7]
          · simp [fw_u2_at, c_any, hev, h7]
          · simp [fw_u2_at, c_any, hev, h7, b_or, b0, h20 k hk]
        · rw [if_neg (by omega), e67 _ _ _ (Or.inr (Or.inr ⟨h7, rfl, rfl⟩))]
          refine step _ (hJ _ _ _) ?_ ?_ (fun k hk => ?_)
          · simp [fw_u2_at, c_rn, hev, h7]
          · simp [fw_u2_at, c_any, hev, h7]
          · simp [fw_u2_at, c_any, hev, h7, b_or, b0, h20 k hk]
      · have hbt : bt (I 0 14) e = true := k14.mpr hg
        rw [if_pos hbt, if_neg (by decide)]
        unfold g_X5_befalls_126
        exact no (fun kd => by unfold c_ev; simp [hg])
    · rw [if_neg (fun q => hb8 ((nI_eq (by omega) (by omega)).mp q))]
      unfold g_X5_befalls_126
      exact no (fun kd => by unfold c_ev; simp [hb8])
theorem m_befalls {C : CF} (hC : c_B C) {b : Nat} (hb : b < 24) {S : CF} (hw : S 0 1 ≤ 9) {I : MI} (hM : m_CM C I) (h18 : I 0 18 = nI (S 0 1)) :
    ∃ I', g_X5_befalls (nI b) I = some ((), I') ∧ m_f m_v1 I I' ∧ I' 0 18 = nI (c_we C b S) ∧ I' 0 19 = nI (if c_dg C b = true then 1 else 0) ∧ (∀ k, k < 16 → bt (I' 0 20) k = c_sl C b k) := by
  unfold g_X5_befalls
  rw [mp_e, mp_e]
  have hf : m_f m_v1 I (fw_u2 (fw_u2 I 0 19 (nI 0)) 0 20 (nI 0)) := ((m_f.r I).w (show m_v1 0 19 by simp [m_v1])).w (show m_v1 0 20 by simp [m_v1])
  obtain ⟨I', r1, r2, r3⟩ := m_befalls_12 hC hb hw (C 6 0) 0 fw_fuel (by omega) (by have := hC.2.2.2.2.1; unfold fw_fuel; omega) _ (hM.f (hf.m (fun j x q => Or.inr ⟨q.1, q.2.1, by have := q.2.2; omega⟩))) (by simp [fw_u2_at, h18, c_rn]) (by simp [fw_u2_at, c_any]) (fun k _ => by rw [fw_u2_self, nI_0]; exact b_0 k)
  exact ⟨I', r1, hf.t r2, r3⟩
/-! one puller -/
theorem m_strength {C : CF} (hC : c_B C) {I : MI} (hM : m_CM C I) (hL : m_LM C I) {k call br : Nat} (hk : c_he C k) (hbr : I 15 k = nI br) (hb : br ≤ C 3 k) (hc : call ≤ 2) :
    g_X5_strength (nI k) (nI call) I = some (nI (c_pw C k call br).1, fw_u2 I 15 k (nI (c_pw C k call br).2)) := by
  have hk16 := hk.1.1
  obtain ⟨e4, e5, e6⟩ := hM.2.1 k hk.1
  obtain ⟨b1, b2, b3⟩ := hC.2.1 k
  have hL := hL k hk
  have h99 : ∀ x v : Nat, g_X5_strength_99 (nI k) (nI x) (nI v) (nI k) I = some (nI (if x = 0 then 0 else C 2 k), fw_u2 I 15 k (nI v)) ∨ 2 ≤ x := by
    intro x v
    by_cases hx : 2 ≤ x
    · exact Or.inr hx
    · refine Or.inl ?_
      unfold g_X5_strength_99
      rw [mw_nI hk16 (by decide), i_z (by omega)]
      by_cases h0 : x = 0
      · rw [if_pos h0, if_pos h0]
      · rw [if_neg h0, if_neg h0, md_nI (by omega) (by decide), fw_u2_ne _ _ (by omega), e5]
  have h56 : ∀ x m : Nat, x ≤ 1 → m ≤ 2 → g_X5_strength_56 (nI k) (nI x) (nI m) I = some (nI (if x = 0 then 0 else C 2 k), fw_u2 I 15 k (nI (min (br + m) (C 3 k)))) := by
    intro x m hx hm
    unfold g_X5_strength_56
    rw [md_nI hk16 (by decide), md_nI (by omega) (by decide), hbr, e6, nI_add, i_le (by omega) (by omega)]
    by_cases h : br + m ≤ C 3 k
    · rw [if_pos h, md_nI hk16 (by decide), hbr, nI_add, (h99 x _).resolve_right (by omega), Nat.min_eq_left h]
    · rw [if_neg h, md_nI (by omega) (by decide), e6, (h99 x _).resolve_right (by omega), Nat.min_eq_right (by omega)]
  have h177 : ∀ x : Nat, x ≤ 1 → g_X5_strength_177 (nI k) (nI x) I = if br = 0 then some (nI 0, I) else some (nI (C 2 k + (if x = 0 then 0 else 2)), fw_u2 I 15 k (nI (br - 1))) := by
    intro x hx
    unfold g_X5_strength_177
    rw [md_nI hk16 (by decide), hbr, i_z (by omega)]
    by_cases h : br = 0
    · rw [if_pos h, if_pos h]
    · rw [if_neg h, if_neg h, md_nI hk16 (by decide), hbr, mw_nI hk16 (by decide), pk_sub (by omega), md_nI (by omega) (by decide), fw_u2_ne _ _ (by omega), e5, i_z (by omega)]
      by_cases h0 : x = 0
      · rw [if_pos h0, if_pos h0, nI_add]
      · rw [if_neg h0, if_neg h0, nI_add]
  have h129 : ∀ x c : Nat, x ≤ 1 → 1 ≤ c → c ≤ 2 → g_X5_strength_129 (nI k) (nI call) (nI x) (nI c) I = if call = 2 ∧ c ≤ br then some (nI (2 * C 2 k + (if x = 0 then 0 else 2)), fw_u2 I 15 k (nI (br - c))) else if br = 0 then some (nI 0, I) else some (nI (C 2 k + (if x = 0 then 0 else 2)), fw_u2 I 15 k (nI (br - 1))) := by
    intro x c hx hc1 hc2
    unfold g_X5_strength_129
    rw [i_eq (by omega) (by decide)]
    by_cases h : call = 2
    · rw [if_pos h, md_nI hk16 (by decide), hbr, i_lt (by omega) (by omega)]
      by_cases h2 : c ≤ br
      · rw [if_neg (by omega), md_nI hk16 (by decide), hbr, mw_nI hk16 (by decide), pk_sub h2, md_nI (by omega) (by decide), fw_u2_ne _ _ (by omega), e5, i_z (by omega), if_pos (show call = 2 ∧ c ≤ br from ⟨h, h2⟩), pk_mul]
        by_cases h0 : x = 0
        · rw [if_pos h0, if_pos h0, nI_add]
        · rw [if_neg h0, if_neg h0, nI_add]
      · rw [if_pos (by omega), h177 x hx, if_neg (show ¬ (call = 2 ∧ c ≤ br) from fun q => h2 q.2)]
    · rw [if_neg h, h177 x hx, if_neg (show ¬ (call = 2 ∧ c ≤ br) from fun q => h q.1)]
  have h28 : ∀ x : Nat, x ≤ 1 → (x = 1 ↔ c_an C k) → g_X5_strength_28 (nI k) (nI call) (nI x) I = some (nI (c_pw C k call br).1, fw_u2 I 15 k (nI (c_pw C k call br).2)) := by
    intro x hx hxa
    have hid : ∀ v, br = v → fw_u2 I 15 k (nI v) = I := fun v h => fw_u2_id I (by rw [hbr, h])
    unfold g_X5_strength_28 c_pw c_ht
    rw [i_z (by omega)]
    by_cases h : call = 0
    · rw [if_pos h, if_pos h, i_z (by omega)]
      by_cases h0 : x = 0
      · rw [if_pos h0, md_nI (by omega) (by decide), e4, i_eq (by omega) (by decide), if_neg (show ¬ c_an C k from fun q => by have := hxa.mpr q; omega)]
        by_cases h1 : C 1 k = 1
        · rw [if_pos h1, h56 x 2 hx (by omega), if_pos h0, if_pos h1]
        · rw [if_neg h1, h56 x 1 hx (by omega), if_pos h0, if_neg h1]
      · rw [if_neg h0, h56 x 0 hx (by omega), if_neg h0, if_pos (hxa.mp (by omega)), Nat.add_zero, Nat.min_eq_left hb]
    · rw [if_neg h, if_neg h, md_nI (by omega) (by decide), e4, i_z (by omega)]
      have ex : (if x = 0 then 0 else 2) = if c_an C k then 2 else 0 := by
        by_cases h0 : x = 0
        · rw [if_pos h0, if_neg (fun q => by have := hxa.mpr q; omega)]
        · rw [if_neg h0, if_pos (hxa.mp (by omega))]
      have hf : ∀ c : Nat, (if call = 2 ∧ c ≤ br then some (nI (2 * C 2 k + (if x = 0 then 0 else 2)), fw_u2 I 15 k (nI (br - c))) else if br = 0 then some (nI 0, I) else some (nI (C 2 k + (if x = 0 then 0 else 2)), fw_u2 I 15 k (nI (br - 1)))) = (some (nI (if call = 2 ∧ c ≤ br then (2 * C 2 k + (if c_an C k then 2 else 0), br - c) else if br = 0 then (0, 0) else (C 2 k + (if c_an C k then 2 else 0), br - 1)).1, fw_u2 I 15 k (nI (if call = 2 ∧ c ≤ br then (2 * C 2 k + (if c_an C k then 2 else 0), br - c) else if br = 0 then (0, 0) else (C 2 k + (if c_an C k then 2 else 0), br - 1)).2)) : Option (Int32 × MI)) := by
        intro c
        rw [ex]
        by_cases h2 : call = 2 ∧ c ≤ br
        · rw [if_pos h2, if_pos h2]
        · rw [if_neg h2, if_neg h2]
          by_cases h3 : br = 0
          · rw [if_pos h3, if_pos h3]
            show some (nI 0, I) = some (nI 0, fw_u2 I 15 k (nI 0))
            rw [hid 0 h3]
          · rw [if_neg h3, if_neg h3]
      by_cases h1 : C 1 k = 0
      · rw [if_pos h1, h129 x 1 hx (by omega) (by omega), if_pos h1, hf]
      · rw [if_neg h1, h129 x 2 hx (by omega) (by omega), if_neg h1, hf]
  unfold g_X5_strength g_X5_strength_27
  rw [md_nI (by omega) (by decide), e4, i_eq (by omega) (by decide)]
  by_cases h2 : C 1 k = 2
  · rw [if_pos h2, pk_div (by omega) (by decide) (by decide), md_nI (by omega) (by decide)]
    by_cases h3 : C 11 (k / 8) = k
    · rw [if_pos (hL.mpr h3), h28 1 (by omega) ⟨fun _ => ⟨h2, h3⟩, fun _ => rfl⟩]
    · rw [if_neg (fun q => h3 (hL.mp q)), h28 0 (by omega) ⟨fun q => by omega, fun q => absurd q.2 h3⟩]
  · rw [if_neg h2, h28 0 (by omega) ⟨fun q => by omega, fun q => absurd q.1 h2⟩]
