set_option maxRecDepth 100000
/-! The model: years. -/
section My
variable {P : CF} {Q : Nat → Int32}
theorem v_u16 : ((nI 16).toUInt32 &&& Int32.toUInt32 31) = 16 := by decide +kernel
theorem v_ush (x : Int32) : (x.toUInt32 >>> ((nI 16).toUInt32 &&& Int32.toUInt32 31)).toInt32 = nI (x.toBitVec.toNat / 65536) := by
  rw [v_u16]
  have h : (x.toUInt32 >>> (16 : UInt32)).toNat = x.toBitVec.toNat / 65536 := by
    rw [UInt32.toNat_shiftRight, Nat.shiftRight_eq_div_pow]
    rfl
  refine Int32.toBitVec_inj.mp ?_
  refine BitVec.eq_of_toNat_eq ?_
  rw [show ((x.toUInt32 >>> (16 : UInt32)).toInt32).toBitVec.toNat = (x.toUInt32 >>> (16 : UInt32)).toNat from rfl, h]
  have := x.toBitVec.isLt
  show _ = (BitVec.ofNat 32 (x.toBitVec.toNat / 65536)).toNat
  rw [BitVec.toNat_ofNat, Nat.mod_eq_of_lt (by omega)]
theorem v_rem3 {a : Nat} (ha : a < 2 ^ 31) : nI a - nI a / nI 3 * nI 3 = nI (a % 3) := by
  rw [pk_div ha (by decide) (by decide), pk_mul, pk_sub (by omega)]
  exact congrArg nI (by omega)
def v_yc (s : Int32) (n x : Nat) : Nat := if x < n then (v_yd s (x + 1)).toBitVec.toNat / 65536 % 3 else 1
theorem m_CM.yr {C : CF} {I : MI} {s : Int32} {n : Nat} (h : ∃ J, m_CM C J ∧ m_f (fun j _ => j = 12) J I) (hc : ∀ x, x < 48 → I 12 x = nI (if 24 ≤ x ∧ x < 48 then v_yc s n (x - 24) else C 4 x)) : m_CM (c_wy C s n) I := by
  obtain ⟨J, ⟨m1, m2, m3, m4, m5, m6, m7⟩, e⟩ := h
  refine ⟨fun t ht => (e 3 t (by omega)).trans (m1 t ht), fun k hk => ⟨(e 4 k (by omega)).trans (m2 k hk).1, (e 5 k (by omega)).trans (m2 k hk).2.1, (e 6 k (by omega)).trans (m2 k hk).2.2⟩, fun x hx => ?_, (e 0 8 (by omega)).trans m4, (e 0 9 (by omega)).trans m5, fun x hx => ?_, fun k hk => ?_⟩
  · rw [hc x hx]
    show _ = nI (if 4 = 4 ∧ 24 ≤ x ∧ x < 48 then (if x - 24 < n then _ else 1) else C 4 x)
    by_cases q : 24 ≤ x ∧ x < 48
    · rw [if_pos q, if_pos ⟨rfl, q⟩]
      rfl
    · rw [if_neg q, if_neg (fun z => q z.2)]
  · have := m6 x hx
    rw [e 9 x (by omega), e 10 x (by omega), e 11 x (by omega), e 0 14 (by omega)]
    exact this
  · rw [e 0 16 (by omega)]
    exact m7 k hk
theorem c_wy_B {C : CF} (hC : c_B C) (s : Int32) (n : Nat) : c_B (c_wy C s n) := by
  refine ⟨hC.1, hC.2.1, fun x => ?_, hC.2.2.2⟩
  show (if 4 = 4 ∧ 24 ≤ x ∧ x < 48 then (if x - 24 < n then (v_yd s (x - 24 + 1)).toBitVec.toNat / 65536 % 3 else 1) else C 4 x) ≤ 2
  split
  · split
    · omega
    · decide
  · exact hC.2.2.1 x
theorem m_y10 (hB : p_B P) {s : Int32} {y w : Nat} (hy : y ≤ 24) (hw : w < 2) {J : MI} (hJ : m_K P Q J) (hM : m_CM (c_to P) J) (h13 : ∀ k, k < 16 → J 13 k = nI (k % 8)) : ∀ (m b n : Nat), b + m = 24 → m < n → ∀ I : MI, m_f (fun j _ => j = 12) J I →
    (∀ x, x < 48 → I 12 x = nI (if 24 ≤ x ∧ x < 24 + b then v_yc s y (x - 24) else c_to P 4 x)) →
    ∃ I', g_X5_yearsOf_10 n (nI y) (nI w) (v_yd s (min b y)) (nI b) I = some (v_ye (c_to P) s y w, I') ∧ m_P P Q I' := by
  intro m
  induction m with
  | zero =>
    intro b n hb hn I hf hc
    obtain ⟨n, rfl⟩ : ∃ q, n = q + 1 := ⟨n - 1, by omega⟩
    obtain rfl : b = 24 := by omega
    obtain ⟨I1, r1, r2, r3, r4⟩ := m_runs (c_wy_B (c_to_B hB) s y) (m_CM.yr ⟨J, hM, hf⟩ hc) (m_PL_to hB (fun k hk => by rw [hf 13 k (by omega)]; exact h13 k hk) (fun _ ht => c_to_0 ht) (fun _ _ => rfl) (Nat.le_refl 16))
    refine ⟨I1, ?_, (hJ.1.f (hf.m fun j x q => by omega)).f (r2.m fun j x q => (m_v_w q).1)⟩
    unfold g_X5_yearsOf_10 v_ye
    rw [if_pos (by decide), r1, mc_e, i_z (by omega)]
    by_cases q : w = 0
    · rw [if_pos q, mg_e, r3.1, if_pos q]
      rfl
    · rw [if_neg q, mg_e, r3.2.2.1, if_neg q]
      rfl
  | succ m ih =>
    intro b n hb hn I hf hc
    obtain ⟨n, rfl⟩ : ∃ q, n = q + 1 := ⟨n - 1, by omega⟩
    have hf' : ∀ v, m_f (fun j _ => j = 12) J (fw_u2 I 12 (24 + b) v) := fun v => m_f.w hf (j := 12) (x := 24 + b) rfl
    have hc' : ∀ v, nI (v_yc s y b) = v → ∀ x, x < 48 → (fw_u2 I 12 (24 + b) v) 12 x = nI (if 24 ≤ x ∧ x < 24 + (b + 1) then v_yc s y (x - 24) else c_to P 4 x) := fun v hv x hx => by
      by_cases q : x = 24 + b
      · subst q
        rw [fw_u2_self, if_pos (by omega), show 24 + b - 24 = b by omega, hv]
      · rw [fw_u2_ne _ _ (by omega), hc x hx]
        by_cases z : 24 ≤ x ∧ x < 24 + b
        · rw [if_pos z, if_pos (by omega)]
        · rw [if_neg z, if_neg (by omega)]
    unfold g_X5_yearsOf_10
    rw [if_neg (nI_ge (by omega) (by decide)), i_le (by omega) (by omega)]
    unfold g_X5_yearsOf_38 g_X5_yearsOf_66
    rw [i_le (by omega) (by omega), i_le (by omega) (by omega)]
    by_cases q : y ≤ b
    · have e : v_yc s y b = 1 := if_neg (by omega)
      obtain ⟨I', q1, q2⟩ := ih (b + 1) n (by omega) (by omega) _ (hf' (nI 1)) (hc' (nI 1) (by rw [e]))
      rw [show min (b + 1) y = min b y by omega] at q1
      refine ⟨I', ?_, q2⟩
      rw [if_pos q, if_pos q, nI_add, mw_nI (by omega) (by decide), nI_add]
      exact q1
    · have e : v_yc s y b = (v_yd s (b + 1)).toBitVec.toNat / 65536 % 3 := if_pos (by omega)
      have := (v_yd s (b + 1)).toBitVec.isLt
      obtain ⟨I', q1, q2⟩ := ih (b + 1) n (by omega) (by omega) _ (hf' (nI ((v_yd s (b + 1)).toBitVec.toNat / 65536 % 3))) (hc' _ (by rw [e]))
      rw [show min (b + 1) y = b + 1 by omega] at q1
      refine ⟨I', ?_, q2⟩
      rw [if_neg q, if_neg q, show min b y = b by omega, show (1103515245 : Int32) * v_yd s b + nI 12345 = v_yd s (b + 1) from rfl, v_ush, v_rem3 (by omega), nI_add, mw_nI (by omega) (by decide), nI_add]
      exact q1
theorem m_yearsOf (hB : p_B P) {I : MI} (hP : m_P P Q I) {s : Int32} {y w : Nat} (hy : y ≤ 24) (hw : w < 2) : ∃ I', g_X5_yearsOf s (nI y) (nI w) I = some (v_ye (c_to P) s y w, I') ∧ m_P P Q I' := by
  obtain ⟨I1, a1, a2, a3, a4, a5⟩ := m_told hB hP
  obtain ⟨I', r1, r2⟩ := m_y10 hB (s := s) hy hw a2 a3 a4 24 0 fw_fuel rfl (by decide) I1 (m_f.r I1) (fun x hx => by rw [if_neg (by omega)]; exact a3.2.2.1 x hx)
  rw [show min 0 y = 0 by omega, show v_yd s 0 = s from rfl] at r1
  refine ⟨I', ?_, r2⟩
  unfold g_X5_yearsOf
  rw [a1, mc_e]
  exact r1
end My
