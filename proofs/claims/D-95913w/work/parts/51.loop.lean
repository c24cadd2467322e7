set_option maxRecDepth 100000
/-! The law's loop: 6 k ints of the script are done. -/
theorem lw_mod {a b : Nat} (ha : a < 2 ^ 31) (h : b ≤ a) : nI a - nI b = nI (a - b) := by
  have : nI a = nI (a - b) + nI b := by rw [nI_add, Nat.sub_add_cancel h]
  rw [this, Int32.add_sub_cancel]
section Loop
variable {K : Kx} {F Lo : Nat} {b N : Nat} {xs : Nat → Int32} {RR : Nat → LH → LH → Prop}
theorem lw_scOf {k : Nat} (hk : 6 * k + 6 ≤ N) (hN : N ≤ 384) : lw_sc N (nI (6 * k)) := by
  intro n hn
  rw [nI_add]
  exact nI_in (by omega) (by omega)
theorem lw_gt {k : Nat} (hk : 6 * k ≤ 384) (hN : N ≤ 384) : (nI N - nI 6 < nI (6 * k)) ↔ N < 6 * k + 6 := by
  by_cases h : 6 ≤ N
  · rw [lw_mod (by omega) h, nI_ltI (by omega) (by omega)]
    omega
  · have h1 : nI N - nI 6 < nI (6 * k) := by
      rw [Int32.lt_iff_toInt_lt, nI_toInt (by omega)]
      rcases (show N = 0 ∨ N = 1 ∨ N = 2 ∨ N = 3 ∨ N = 4 ∨ N = 5 by omega) with e | e | e | e | e | e <;> subst e <;> (refine Int.lt_of_lt_of_le (b := 0) (by decide) (by omega))
    exact ⟨fun _ => by omega, fun _ => h1⟩
theorem lw_and63 (x : Int32) : (x &&& 63).toInt < 0 ∨ 36 < (x &&& 63).toInt ∨ ∃ k : Nat, k < 37 ∧ x &&& 63 = nI k := by
  by_cases h : (x &&& 63).toInt < 0
  · exact Or.inl h
  · by_cases h2 : 36 < (x &&& 63).toInt
    · exact Or.inr (Or.inl h2)
    · refine Or.inr (Or.inr ⟨(x &&& 63).toInt.toNat, by omega, ?_⟩)
      refine Int32.toInt_inj.mp ?_
      rw [nI_toInt (by omega)]
      omega

def lw_E (K : Kx) : Prop := ∀ (H : Heap) (ls : Array Slot) (c0 s0 : Nat), c0 ≤ 603072 → s0 ≤ 7262314 → W (kx_p K) (kx_l K) (kx_e K) (kx_R K) (kx_s K) (kx_m K) (kx_a K) (kx_b K) (kx_me K) (kx_c K) H [] c0 s0 (kx_Q K) (F0 (kx_m K) 1276 ls [.int 1])
theorem lw_loop (hK : Ok K cL_law 4 "TugOfWarLaw" F Lo) (hZ : fw_isZ K) (hB : lw_B K b N xs) (hE : lw_E K) (h0 : ∀ k, lw_R0 (RR k)) (hP : PL RR) (hFL : 400 ≤ F ∧ 60000 ≤ Lo) : ∀ (n k : Nat), k + n = 65 → ∀ (Lx Lm : LH) (c0 s0 : Nat), RR k Lx Lm → 6 * k ≤ N + 5 → c0 ≤ 4000 + 4000 * k → s0 ≤ 40000 + 40000 * k → LW K Lx Lm c0 s0 18 (lvL b (nI (6 * k))) (fun _ _ => []) := by
  intro n
  induction n with
  | zero =>
    intro k hkn Lx Lm c0 s0 hR hk hc hs
    have hN := hB.2.2.1
    omega
  | succ n ih =>
    intro k hkn Lx Lm c0 s0 hR hk hc hs
    have hN := hB.2.2.1
    have hnext : ∀ L1 L2 c1 s1, 6 * k + 6 ≤ N → RR (k + 1) L1 L2 → c1 ≤ c0 + 4000 → s1 ≤ s0 + 40000 → LW K L1 L2 c1 s1 1269 (lvL b (nI (6 * k))) (fun _ _ => []) := by
      intro L1 L2 c1 s1 h6 hR1 hc1 hs1 adx adm H ls h hl
      refine lv_iinc (k := 3) (v := nI (6 * (k + 1))) hK.x hK.b dL_law_1269 hl rfl (by show nI (6 * k) + nI 6 = _; rw [nI_add]; rfl) (by decide) rfl (fun ls' hl' => ?_)
      refine lv_goto (tgt := 18) hK.x hK.b dL_law_1272 (by decide) ?_
      exact ih (k + 1) (by omega) L1 L2 c1 s1 hR1 (by omega) (by omega) (by omega) adx adm H ls' h (lv_sub hl' [1, 2, 3, 0] rfl)
    intro adx adm H ls h hl
    refine lv_iload_n hK.x hK.b dL_law_18 rfl (lv_at hl 3 rfl) ?_
    refine lv_aload_n hK.x hK.b dL_law_19 rfl (lv_at hl 0 rfl) ?_
    refine va_slen hK.x hK.b hB.1 hB.2.1 (fun hz => absurd (hB.2.2.2.1 _ hz) (Nat.not_le.mpr hB.2.1)) h.1.2.2.1 dL_law_20 ?_
    refine lv_bipush (v := nI 6) hK.x hK.b dL_law_21 rfl ?_
    refine lv_isub hK.x hK.b dL_law_23 ?_
    refine lv_icmp_gt (tgt := 1275) hK.x hK.b dL_law_24 (by decide) (fun hgt => ?_) (fun hgt => ?_)
    · refine lv_iconst (v := 1) hK.x hK.b dL_law_1275 rfl ?_
      exact hE H ls c0 s0 (by omega) (by omega)
    · have h6 : 6 * k + 6 ≤ N := by
        exact Nat.not_lt.mp (fun z => hgt ((lw_gt (k := k) (by omega) hN).mpr z))
      have hsc := lw_scOf h6 hN
      have hkk := fun L1 L2 c1 s1 => hnext L1 L2 c1 s1 h6
      have hk0 : (nI (6 * k)).toNatClampNeg = 6 * k := nI_clamp (by omega)
      refine lw_cell0 (st := fun _ _ => []) hK hB (w := xs (6 * k)) 3 (fun _ _ => rfl) (fun _ _ => rfl) (nI_in (by omega) (by omega)) (by rw [hk0]) dL_law_27 dL_law_28 dL_law_29 ?_ adx adm H ls h hl
      intro adx adm H ls h hl
      refine lv_bipush (v := 63) hK.x hK.b dL_law_30 rfl ?_
      refine lv_iand hK.x hK.b dL_law_32 ?_
      have hroom : c0 + 4000 ≤ 603072 ∧ s0 + 40000 ≤ 7262314 := ⟨by omega, by omega⟩
      rcases lw_and63 (xs (6 * k)) with hout | hout | ⟨op, hop, hx⟩
      · exact lv_tableOut hK.x hK.b dL_law_33 (Or.inl hout) (tgt := 1269) (by decide) (hkk Lx Lm c0 s0 ((hP k (by omega)).2 Lx Lm hR) (by omega) (by omega) adx adm H ls h hl)
      · exact lv_tableOut hK.x hK.b dL_law_33 (Or.inr hout) (tgt := 1269) (by decide) (hkk Lx Lm c0 s0 ((hP k (by omega)).2 Lx Lm hR) (by omega) (by omega) adx adm H ls h hl)
      · rw [hx]
        obtain ⟨p0, p1, p2, p3, p4, p5, p6, p7, p8, p9, p10, p11, p12, p13, p14, p15, p16, p17, p18, p19, p20, p21, p22, p23, p24, p25, p26, p27, p28, p29, p30, p31, p32, p33, p34, p35, p36⟩ := (hP k (by omega)).1
        rcases (show op = 0 ∨ op = 1 ∨ op = 2 ∨ op = 3 ∨ op = 4 ∨ op = 5 ∨ op = 6 ∨ op = 7 ∨ op = 8 ∨ op = 9 ∨ op = 10 ∨ op = 11 ∨ op = 12 ∨ op = 13 ∨ op = 14 ∨ op = 15 ∨ op = 16 ∨ op = 17 ∨ op = 18 ∨ op = 19 ∨ op = 20 ∨ op = 21 ∨ op = 22 ∨ op = 23 ∨ op = 24 ∨ op = 25 ∨ op = 26 ∨ op = 27 ∨ op = 28 ∨ op = 29 ∨ op = 30 ∨ op = 31 ∨ op = 32 ∨ op = 33 ∨ op = 34 ∨ op = 35 ∨ op = 36 by omega) with e | e | e | e | e | e | e | e | e | e | e | e | e | e | e | e | e | e | e | e | e | e | e | e | e | e | e | e | e | e | e | e | e | e | e | e | e
        · subst e; exact lv_tableIn (tgt := 196) hK.x hK.b dL_law_33 (by decide) (by decide) rfl (by decide) (lc_0 hK hZ hB (h0 k) p0 hFL hR hsc hroom hkk adx adm H ls h hl)
        · subst e; exact lv_tableIn (tgt := 229) hK.x hK.b dL_law_33 (by decide) (by decide) rfl (by decide) (lc_1 hK hZ hB (h0 k) p1 hFL hR hsc hroom hkk adx adm H ls h hl)
        · subst e; exact lv_tableIn (tgt := 252) hK.x hK.b dL_law_33 (by decide) (by decide) rfl (by decide) (lc_2 hK hZ hB (h0 k) p2 hFL hR hsc hroom hkk adx adm H ls h hl)
        · subst e; exact lv_tableIn (tgt := 275) hK.x hK.b dL_law_33 (by decide) (by decide) rfl (by decide) (lc_3 hK hZ hB (h0 k) p3 hFL hR hsc hroom hkk adx adm H ls h hl)
        · subst e; exact lv_tableIn (tgt := 298) hK.x hK.b dL_law_33 (by decide) (by decide) rfl (by decide) (lc_4 hK hZ hB (h0 k) p4 hFL hR hsc hroom hkk adx adm H ls h hl)
        · subst e; exact lv_tableIn (tgt := 331) hK.x hK.b dL_law_33 (by decide) (by decide) rfl (by decide) (lc_5 hK hZ hB (h0 k) p5 hFL hR hsc hroom hkk adx adm H ls h hl)
        · subst e; exact lv_tableIn (tgt := 364) hK.x hK.b dL_law_33 (by decide) (by decide) rfl (by decide) (lc_6 hK hZ hB (h0 k) p6 hFL hR hsc hroom hkk adx adm H ls h hl)
        · subst e; exact lv_tableIn (tgt := 387) hK.x hK.b dL_law_33 (by decide) (by decide) rfl (by decide) (lc_7 hK hZ hB (h0 k) p7 hFL hR hsc hroom hkk adx adm H ls h hl)
        · subst e; exact lv_tableIn (tgt := 430) hK.x hK.b dL_law_33 (by decide) (by decide) rfl (by decide) (lc_8 hK hZ hB (h0 k) p8 hFL hR hsc hroom hkk adx adm H ls h hl)
        · subst e; exact lv_tableIn (tgt := 443) hK.x hK.b dL_law_33 (by decide) (by decide) rfl (by decide) (lc_9 hK hZ hB (h0 k) p9 hFL hR hsc hroom hkk adx adm H ls h hl)
        · subst e; exact lv_tableIn (tgt := 466) hK.x hK.b dL_law_33 (by decide) (by decide) rfl (by decide) (lc_10 hK hZ hB (h0 k) p10 hFL hR hsc hroom hkk adx adm H ls h hl)
        · subst e; exact lv_tableIn (tgt := 499) hK.x hK.b dL_law_33 (by decide) (by decide) rfl (by decide) (lc_11 hK hZ hB (h0 k) p11 hFL hR hsc hroom hkk adx adm H ls h hl)
        · subst e; exact lv_tableIn (tgt := 542) hK.x hK.b dL_law_33 (by decide) (by decide) rfl (by decide) (lc_12 hK hZ hB (h0 k) p12 hFL hR hsc hroom hkk adx adm H ls h hl)
        · subst e; exact lv_tableIn (tgt := 565) hK.x hK.b dL_law_33 (by decide) (by decide) rfl (by decide) (lc_13 hK hZ hB (h0 k) p13 hFL hR hsc hroom hkk adx adm H ls h hl)
        · subst e; exact lv_tableIn (tgt := 588) hK.x hK.b dL_law_33 (by decide) (by decide) rfl (by decide) (lc_14 hK hZ hB (h0 k) p14 hFL hR hsc hroom hkk adx adm H ls h hl)
        · subst e; exact lv_tableIn (tgt := 611) hK.x hK.b dL_law_33 (by decide) (by decide) rfl (by decide) (lc_15 hK hZ hB (h0 k) p15 hFL hR hsc hroom hkk adx adm H ls h hl)
        · subst e; exact lv_tableIn (tgt := 624) hK.x hK.b dL_law_33 (by decide) (by decide) rfl (by decide) (lc_16 hK hZ hB (h0 k) p16 hFL hR hsc hroom hkk adx adm H ls h hl)
        · subst e; exact lv_tableIn (tgt := 637) hK.x hK.b dL_law_33 (by decide) (by decide) rfl (by decide) (lc_17 hK hZ hB (h0 k) p17 hFL hR hsc hroom hkk adx adm H ls h hl)
        · subst e; exact lv_tableIn (tgt := 650) hK.x hK.b dL_law_33 (by decide) (by decide) rfl (by decide) (lc_18 hK hZ hB (h0 k) p18 hFL hR hsc hroom hkk adx adm H ls h hl)
        · subst e; exact lv_tableIn (tgt := 693) hK.x hK.b dL_law_33 (by decide) (by decide) rfl (by decide) (lc_19 hK hZ hB (h0 k) p19 hFL hR hsc hroom hkk adx adm H ls h hl)
        · subst e; exact lv_tableIn (tgt := 726) hK.x hK.b dL_law_33 (by decide) (by decide) rfl (by decide) (lc_20 hK hZ hB (h0 k) p20 hFL hR hsc hroom hkk adx adm H ls h hl)
        · subst e; exact lv_tableIn (tgt := 759) hK.x hK.b dL_law_33 (by decide) (by decide) rfl (by decide) (lc_21 hK hZ hB (h0 k) p21 hFL hR hsc hroom hkk adx adm H ls h hl)
        · subst e; exact lv_tableIn (tgt := 782) hK.x hK.b dL_law_33 (by decide) (by decide) rfl (by decide) (lc_22 hK hZ hB (h0 k) p22 hFL hR hsc hroom hkk adx adm H ls h hl)
        · subst e; exact lv_tableIn (tgt := 815) hK.x hK.b dL_law_33 (by decide) (by decide) rfl (by decide) (lc_23 hK hZ hB (h0 k) p23 hFL hR hsc hroom hkk adx adm H ls h hl)
        · subst e; exact lv_tableIn (tgt := 828) hK.x hK.b dL_law_33 (by decide) (by decide) rfl (by decide) (lc_24 hK hZ hB (h0 k) p24 hFL hR hsc hroom hkk adx adm H ls h hl)
        · subst e; exact lv_tableIn (tgt := 841) hK.x hK.b dL_law_33 (by decide) (by decide) rfl (by decide) (lc_25 hK hZ hB (h0 k) p25 hFL hR hsc hroom hkk adx adm H ls h hl)
        · subst e; exact lv_tableIn (tgt := 874) hK.x hK.b dL_law_33 (by decide) (by decide) rfl (by decide) (lc_26 hK hZ hB (h0 k) p26 hFL hR hsc hroom hkk adx adm H ls h hl)
        · subst e; exact lv_tableIn (tgt := 897) hK.x hK.b dL_law_33 (by decide) (by decide) rfl (by decide) (lc_27 hK hZ hB (h0 k) p27 hFL hR hsc hroom hkk adx adm H ls h hl)
        · subst e; exact lv_tableIn (tgt := 941) hK.x hK.b dL_law_33 (by decide) (by decide) rfl (by decide) (lc_28 hK hZ hB (h0 k) p28 hFL hR hsc hroom hkk adx adm H ls h hl)
        · subst e; exact lv_tableIn (tgt := 984) hK.x hK.b dL_law_33 (by decide) (by decide) rfl (by decide) (lc_29 hK hZ hB (h0 k) p29 hFL hR hsc hroom hkk adx adm H ls h hl)
        · subst e; exact lv_tableIn (tgt := 1027) hK.x hK.b dL_law_33 (by decide) (by decide) rfl (by decide) (lc_30 hK hZ hB (h0 k) p30 hFL hR hsc hroom hkk adx adm H ls h hl)
        · subst e; exact lv_tableIn (tgt := 1050) hK.x hK.b dL_law_33 (by decide) (by decide) rfl (by decide) (lc_31 hK hZ hB (h0 k) p31 hFL hR hsc hroom hkk adx adm H ls h hl)
        · subst e; exact lv_tableIn (tgt := 1103) hK.x hK.b dL_law_33 (by decide) (by decide) rfl (by decide) (lc_32 hK hZ hB (h0 k) p32 hFL hR hsc hroom hkk adx adm H ls h hl)
        · subst e; exact lv_tableIn (tgt := 1146) hK.x hK.b dL_law_33 (by decide) (by decide) rfl (by decide) (lc_33 hK hZ hB (h0 k) p33 hFL hR hsc hroom hkk adx adm H ls h hl)
        · subst e; exact lv_tableIn (tgt := 1209) hK.x hK.b dL_law_33 (by decide) (by decide) rfl (by decide) (lc_34 hK hZ hB (h0 k) p34 hFL hR hsc hroom hkk adx adm H ls h hl)
        · subst e; exact lv_tableIn (tgt := 1232) hK.x hK.b dL_law_33 (by decide) (by decide) rfl (by decide) (lc_35 hK hZ hB (h0 k) p35 hFL hR hsc hroom hkk adx adm H ls h hl)
        · subst e; exact lv_tableIn (tgt := 1255) hK.x hK.b dL_law_33 (by decide) (by decide) rfl (by decide) (lc_36 hK hZ hB (h0 k) p36 hFL hR hsc hroom hkk adx adm H ls h hl)
end Loop
