def f_X0_divisor : Nat → Int64 → Int64 → LH → Rs Int64
  | 0, _, _, _ => none
  | n + 1, y0, y2, L =>
    if y2 = (0 : Int64) then (
      some (y0, L, 0, 0)
    ) else (
      fw_nzl y2 <|
      fw_cl (f_X0_divisor n y2 (y0 - y0 / y2 * y2) L) fun v2 L1 =>
      some (v2, L1, 0, 0)
    )
set_option maxHeartbeats 4000000 in
set_option maxRecDepth 100000 in
theorem w_X0_divisor_0 {K : Kx} {r9 : Int64} {L9 : LH} {n : Nat} (ih : ∀ {y0 : Int64} {y2 : Int64} {L : LH} {r9 : Int64} {L9 : LH} {mc ms : Nat}, f_X0_divisor n y0 y2 L = some (r9, L9, mc, ms) → fw_Cx yX0_divisor (ws_ yX0_divisor cX0_divisor 4 (some (.long))) n (23 * n) [aL y0, aL y2] L (some (aL r9)) L9 mc ms) (hK : Ok K cX0_divisor 4 RX0 (n + 1) (23 * (n + 1))) (hZ : fw_isZ K) (hF : Fin K (some (.long)) (some (aL r9)) L9) {y0 : Int64} {y2 : Int64} {L : LH} {mc ms : Nat} (h : f_X0_divisor (n + 1) y0 y2 L = some (r9, L9, mc, ms)) : AW K L mc ms 0 [(0, aL y0), (2, aL y2)] [] := by
  unfold f_X0_divisor at h
  refine aw_lload_n hK 1 dX0_divisor_0 rfl rfl ?_
  refine aw_lconst (v := 0) hK dX0_divisor_1 rfl ?_
  refine aw_lcmp_ne (tgt := 10) hK dX0_divisor_2 dX0_divisor_3 (by decide) h (fun h => ?_) (fun h => ?_)
  · refine aw_lload_n hK 1 dX0_divisor_10 rfl rfl ?_
    refine aw_lload_n hK 0 dX0_divisor_11 rfl rfl ?_
    refine aw_lload_n hK 1 dX0_divisor_12 rfl rfl ?_
    obtain ⟨hne, h⟩ := fw_nzl_h h
    refine aw_lrem hK dX0_divisor_13 hne ?_
    refine aw_callS_l (n := 2) hK (fun _ _ _ _ q => fw_czx hZ (ih q)) (lw_S q1030 q1031 q94 q1032) (by decide +kernel) ⟨Nat.le_refl _, by omega⟩ rfl rfl (Nat.le_of_ble_eq_true rfl) dX0_divisor_14 h (fun v2 L1 _ _ h => ?_)
    exact aw_lret hK dX0_divisor_17 h hF
  · refine aw_lload_n hK 0 dX0_divisor_6 rfl rfl ?_
    refine aw_goto (tgt := 17) hK dX0_divisor_7 (by decide) ?_
    exact aw_lret hK dX0_divisor_17 h hF
theorem ct_X0_divisor {n : Nat} : ∀ {y0 : Int64} {y2 : Int64} {L : LH} {r9 : Int64} {L9 : LH} {mc ms : Nat}, f_X0_divisor n y0 y2 L = some (r9, L9, mc, ms) → fw_Cx yX0_divisor (ws_ yX0_divisor cX0_divisor 4 (some (.long))) n (23 * n) [aL y0, aL y2] L (some (aL r9)) L9 mc ms := by
  induction n with
  | zero => intro y0 y2 L r9 L9 mc ms h; unfold f_X0_divisor at h; exact (fw_no h).elim
  | succ n ih =>
    intro y0 y2 L r9 L9 mc ms h
    exact fun b1 b2 => ct_of (own := RX0) fw_ZX_ok (by decide +kernel) rfl (Nat.le_of_ble_eq_true rfl) (fun K hZ hK hF hini => w_X0_divisor_0 ih hK ⟨b1, b2, hZ⟩ hF h)
def f_J0_init (j0 : Nat) (L : LH) : Rs Unit :=
  some ((), L, 0, 0)
set_option maxHeartbeats 4000000 in
set_option maxRecDepth 100000 in
theorem w_J0_init_0 {K : Kx} {r9 : Unit} {L9 : LH} (hK : Ok K cJ0_init 1 RJ0 1 20) (hZ : fw_isZ K) (hini : (kx_me K).name = "<init>") (hF : Fin K none none L9) {j0 : Nat} {L : LH} {mc ms : Nat} (h : f_J0_init j0 L = some (r9, L9, mc, ms)) : AW K L mc ms 0 [(0, aR (some j0))] [] := by
  unfold f_J0_init at h
  refine aw_aload_n hK 0 dJ0_init_0 rfl rfl ?_
  refine aw_objInit hK q151 q128 q129 dJ0_init_1 (by decide) (Nat.le_of_ble_eq_true rfl) ?_
  exact aw_vret hK dJ0_init_4 h hF
theorem ct_J0_init {j0 : Nat} {L : LH} {r9 : Unit} {L9 : LH} {mc ms : Nat} (h : f_J0_init j0 L = some (r9, L9, mc, ms)) : fw_Cx yJ0_init (ws_ yJ0_init cJ0_init 1 none) 1 20 [aR (some j0)] L none L9 mc ms :=
  fun b1 b2 => ct_of (own := RJ0) fw_ZX_ok (by decide +kernel) rfl (Nat.le_of_ble_eq_true rfl) (fun K hZ hK hF hini => w_J0_init_0 hK ⟨b1, b2, hZ⟩ hini hF h)
def f_J1_init (j0 : Nat) (L : LH) : Rs Unit :=
  fw_cl (f_J0_init j0 L) fun _ L1 =>
  fw_pI 5 L1 j0 0 (nI 0) fun L2 =>
  some ((), L2, 0, 0)
set_option maxHeartbeats 4000000 in
set_option maxRecDepth 100000 in
theorem w_J1_init_0 {K : Kx} {r9 : Unit} {L9 : LH} (hK : Ok K cJ1_init 1 RJ1 2 40) (hZ : fw_isZ K) (hini : (kx_me K).name = "<init>") (hF : Fin K none none L9) {j0 : Nat} {L : LH} {mc ms : Nat} (h : f_J1_init j0 L = some (r9, L9, mc, ms)) : AW K L mc ms 0 [(0, aR (some j0))] [] := by
  unfold f_J1_init at h
  refine aw_aload_n hK 0 dJ1_init_0 rfl rfl ?_
  refine aw_callI (n := 0) (As := []) hK (fun _ _ _ _ q => (fw_czx hZ (ct_J0_init q))) (lw_meth q150) q97 q148 q149 rfl (by decide +kernel) (by decide) rfl rfl (Nat.le_of_ble_eq_true rfl) dJ1_init_1 h (fun L1 _ _ h => ?_)
  refine aw_aload_n hK 0 dJ1_init_4 rfl rfl ?_
  refine aw_iconst (v := (nI 0)) hK dJ1_init_5 rfl ?_
  refine aw_pI hK fw_c4 0 (by decide) rfl q156 (fun _ h9 => h9) rfl rfl rfl dJ1_init_6 h (fun L2 h => ?_)
  exact aw_vret hK dJ1_init_9 h hF
theorem ct_J1_init {j0 : Nat} {L : LH} {r9 : Unit} {L9 : LH} {mc ms : Nat} (h : f_J1_init j0 L = some (r9, L9, mc, ms)) : fw_Cx yJ1_init (ws_ yJ1_init cJ1_init 1 none) 2 40 [aR (some j0)] L none L9 mc ms :=
  fun b1 b2 => ct_of (own := RJ1) fw_ZX_ok (by decide +kernel) rfl (Nat.le_of_ble_eq_true rfl) (fun K hZ hK hF hini => w_J1_init_0 hK ⟨b1, b2, hZ⟩ hini hF h)
def f_J10_checkIndex_9 (x0 : Int32) (x1 : Int32) (rp2 : Option Nat) (L : LH) : Rs Int32 :=
  none
def f_J10_checkIndex (x0 : Int32) (x1 : Int32) (rp2 : Option Nat) (L : LH) : Rs Int32 :=
  if x0 < 0 then (
    f_J10_checkIndex_9 x0 x1 rp2 L
  ) else (
    if x0 < x1 then (
      some (x0, L, 0, 0)
    ) else (
      f_J10_checkIndex_9 x0 x1 rp2 L
    )
  )
set_option maxHeartbeats 4000000 in
set_option maxRecDepth 100000 in
theorem w_J10_checkIndex_9 {K : Kx} {r9 : Int32} {L9 : LH} (hK : Ok K cJ10_checkIndex 3 RJ10 0 0) (hZ : fw_isZ K) (hF : Fin K (some (.int)) (some (aI r9)) L9) {x0 : Int32} {x1 : Int32} {rp2 : Option Nat} {L : LH} {mc ms : Nat} (h : f_J10_checkIndex_9 x0 x1 rp2 L = some (r9, L9, mc, ms)) : AW K L mc ms 9 [(0, aI x0), (1, aI x1), (2, aR rp2)] [] := by
  unfold f_J10_checkIndex_9 at h
  exact (fw_no h).elim
set_option maxHeartbeats 4000000 in
set_option maxRecDepth 100000 in
theorem w_J10_checkIndex_0 {K : Kx} {r9 : Int32} {L9 : LH} (hK : Ok K cJ10_checkIndex 3 RJ10 0 0) (hZ : fw_isZ K) (hF : Fin K (some (.int)) (some (aI r9)) L9) {x0 : Int32} {x1 : Int32} {rp2 : Option Nat} {L : LH} {mc ms : Nat} (h : f_J10_checkIndex x0 x1 rp2 L = some (r9, L9, mc, ms)) : AW K L mc ms 0 [(0, aI x0), (1, aI x1), (2, aR rp2)] [] := by
  unfold f_J10_checkIndex at h
  refine aw_iload_n hK 0 dJ10_checkIndex_0 rfl rfl ?_
  refine aw_if_lt (tgt := 9) hK dJ10_checkIndex_1 (by decide) h (fun h => ?_) (fun h => ?_)
  · exact w_J10_checkIndex_9 hK hZ hF h
  · refine aw_iload_n hK 0 dJ10_checkIndex_4 rfl rfl ?_
    refine aw_iload_n hK 1 dJ10_checkIndex_5 rfl rfl ?_
    refine aw_icmp_lt (tgt := 16) hK dJ10_checkIndex_6 (by decide) h (fun h => ?_) (fun h => ?_)
    · refine aw_iload_n hK 0 dJ10_checkIndex_16 rfl rfl ?_
      exact aw_iret hK dJ10_checkIndex_17 h hF
    · exact w_J10_checkIndex_9 hK hZ hF h
theorem ct_J10_checkIndex {x0 : Int32} {x1 : Int32} {rp2 : Option Nat} {L : LH} {r9 : Int32} {L9 : LH} {mc ms : Nat} (h : f_J10_checkIndex x0 x1 rp2 L = some (r9, L9, mc, ms)) : fw_Cx yJ10_checkIndex (ws_ yJ10_checkIndex cJ10_checkIndex 3 (some (.int))) 0 0 [aI x0, aI x1, aR rp2] L (some (aI r9)) L9 mc ms :=
  fun b1 b2 => ct_of (own := RJ10) fw_ZX_ok (by decide +kernel) rfl (Nat.le_of_ble_eq_true rfl) (fun K hZ hK hF hini => w_J10_checkIndex_0 hK ⟨b1, b2, hZ⟩ hF h)
def f_J13_checkIndex (x0 : Int32) (x1 : Int32) (L : LH) : Rs Int32 :=
  fw_cl (f_J10_checkIndex x0 x1 none L) fun v2 L1 =>
  some (v2, L1, 0, 0)
set_option maxHeartbeats 4000000 in
set_option maxRecDepth 100000 in
theorem w_J13_checkIndex_0 {K : Kx} {r9 : Int32} {L9 : LH} (hK : Ok K cJ13_checkIndex 2 RJ13 1 22) (hZ : fw_isZ K) (hF : Fin K (some (.int)) (some (aI r9)) L9) {x0 : Int32} {x1 : Int32} {L : LH} {mc ms : Nat} (h : f_J13_checkIndex x0 x1 L = some (r9, L9, mc, ms)) : AW K L mc ms 0 [(0, aI x0), (1, aI x1)] [] := by
  unfold f_J13_checkIndex at h
  refine aw_iload_n hK 0 dJ13_checkIndex_0 rfl rfl ?_
  refine aw_iload_n hK 1 dJ13_checkIndex_1 rfl rfl ?_
  refine aw_null hK dJ13_checkIndex_2 ?_
  refine aw_callS_i (n := 3) hK (fun _ _ _ _ q => fw_czx hZ (ct_J10_checkIndex q)) (lw_S q676 q677 q111 q678) (by decide +kernel) (by decide) rfl rfl (Nat.le_of_ble_eq_true rfl) dJ13_checkIndex_3 h (fun v2 L1 _ _ h => ?_)
  exact aw_iret hK dJ13_checkIndex_6 h hF
theorem ct_J13_checkIndex {x0 : Int32} {x1 : Int32} {L : LH} {r9 : Int32} {L9 : LH} {mc ms : Nat} (h : f_J13_checkIndex x0 x1 L = some (r9, L9, mc, ms)) : fw_Cx yJ13_checkIndex (ws_ yJ13_checkIndex cJ13_checkIndex 2 (some (.int))) 1 22 [aI x0, aI x1] L (some (aI r9)) L9 mc ms :=
  fun b1 b2 => ct_of (own := RJ13) fw_ZX_ok (by decide +kernel) rfl (Nat.le_of_ble_eq_true rfl) (fun K hZ hK hF hini => w_J13_checkIndex_0 hK ⟨b1, b2, hZ⟩ hF h)
def f_J2_init (j0 : Nat) (L : LH) : Rs Unit :=
  fw_cl (f_J1_init j0 L) fun _ L1 =>
  fw_pR 5 L1 j0 1 (some (fw_RO + 4)) fun L2 =>
  some ((), L2, 0, 0)
set_option maxHeartbeats 4000000 in
set_option maxRecDepth 100000 in
theorem w_J2_init_0 {K : Kx} {r9 : Unit} {L9 : LH} (hK : Ok K cJ2_init 1 RJ2 3 60) (hZ : fw_isZ K) (hini : (kx_me K).name = "<init>") (hF : Fin K none none L9) {j0 : Nat} {L : LH} {mc ms : Nat} (h : f_J2_init j0 L = some (r9, L9, mc, ms)) : AW K L mc ms 0 [(0, aR (some j0))] [] := by
  unfold f_J2_init at h
  refine aw_aload_n hK 0 dJ2_init_0 rfl rfl ?_
  refine aw_callI (n := 0) (As := []) hK (fun _ _ _ _ q => (fw_czx hZ (ct_J1_init q))) (lw_meth q147) q98 q145 q146 rfl (by decide +kernel) (by decide) rfl rfl (Nat.le_of_ble_eq_true rfl) dJ2_init_1 h (fun L1 _ _ h => ?_)
  refine aw_aload_n hK 0 dJ2_init_4 rfl rfl ?_
  refine aw_getsR hK 4 (fw_zx hK hZ).2.1.1 (hK.ts _ q152) (fun _ h9 => h9) dJ2_init_5 ?_
  refine aw_pR hK fw_c4 1 (by decide) rfl q154 (fun _ h9 => h9) rfl (fun r => by cases r <;> exact ⟨rfl, rfl⟩) dJ2_init_8 h (fun L2 h => ?_)
  exact aw_vret hK dJ2_init_11 h hF
theorem ct_J2_init {j0 : Nat} {L : LH} {r9 : Unit} {L9 : LH} {mc ms : Nat} (h : f_J2_init j0 L = some (r9, L9, mc, ms)) : fw_Cx yJ2_init (ws_ yJ2_init cJ2_init 1 none) 3 60 [aR (some j0)] L none L9 mc ms :=
  fun b1 b2 => ct_of (own := RJ2) fw_ZX_ok (by decide +kernel) rfl (Nat.le_of_ble_eq_true rfl) (fun K hZ hK hF hini => w_J2_init_0 hK ⟨b1, b2, hZ⟩ hini hF h)
def f_J2_clear_27 : Nat → Option Nat → Int32 → Int32 → LH → Rs Unit
  | 0, _, _, _, _ => none
  | n + 1, rp1, x2, x3, L =>
    if x2 ≤ x3 then (
      some ((), L, 0, 0)
    ) else (
      fw_nn rp1 fun j1 =>
      fw_wqa 5 L j1 x3 none fun L2 =>
      f_J2_clear_27 n (some j1) x2 (x3 + (nI 1)) L2
    )
def f_J2_clear (j0 : Nat) (L : LH) : Rs Unit :=
  fw_gI 5 L j0 0 fun v1 =>
  fw_pI 5 L j0 0 (v1 + (nI 1)) fun L2 =>
  fw_gR 5 L2 j0 1 fun r3 =>
  fw_gI 5 L2 j0 2 fun v4 =>
  fw_pI 5 L2 j0 2 (nI 0) fun L5 =>
  f_J2_clear_27 fw_fuel r3 v4 (nI 0) L5
set_option maxHeartbeats 4000000 in
set_option maxRecDepth 100000 in
theorem w_J2_clear_27 {K : Kx} {r9 : Unit} {L9 : LH} (hK : Ok K cJ2_clear 4 RJ2 0 0) (hZ : fw_isZ K) (hF : Fin K none none L9) : ∀ {n : Nat} {rp1 : Option Nat} {x2 : Int32} {x3 : Int32} {L : LH} {mc ms : Nat}, f_J2_clear_27 n rp1 x2 x3 L = some (r9, L9, mc, ms) → AW K L mc ms 27 [(1, aR rp1), (2, aI x2), (3, aI x3)] [] := by
  intro n
  induction n with
  | zero =>
    intro rp1 x2 x3 L mc ms h
    have h : (none : Rs Unit) = some (r9, L9, mc, ms) := h
    cases h
  | succ n ih =>
    intro rp1 x2 x3 L mc ms h
    unfold f_J2_clear_27 at h
    refine aw_iload_n hK 2 dJ2_clear_27 rfl rfl ?_
    refine aw_iload_n hK 1 dJ2_clear_28 rfl rfl ?_
    refine aw_icmp_ge (tgt := 42) hK dJ2_clear_29 (by decide) h (fun h => ?_) (fun h => ?_)
    · exact aw_vret hK dJ2_clear_42 h hF
    · refine aw_aload_n hK 0 dJ2_clear_32 rfl rfl ?_
      refine aw_iload_n hK 2 dJ2_clear_33 rfl rfl ?_
      refine aw_null hK dJ2_clear_34 ?_
      obtain _ | j1 := rp1
      · exact (fw_nn_no h).elim
      replace h := fw_nn_so h
      refine aw_aast hK hZ 5 (by decide) dJ2_clear_35 h (fun L2 h => ?_)
      refine aw_iinc (v := (x3 + (nI 1))) (lv' := [(3, aI (x3 + (nI 1))), (1, aR (some j1)), (2, aI x2)]) hK 2 dJ2_clear_36 rfl rfl (by decide) rfl ?_
      refine aw_goto (tgt := 27) hK dJ2_clear_39 (by decide) ?_
      exact aw_sub [1, 2, 0] rfl (ih h)
set_option maxHeartbeats 4000000 in
set_option maxRecDepth 100000 in
theorem w_J2_clear_0 {K : Kx} {r9 : Unit} {L9 : LH} (hK : Ok K cJ2_clear 4 RJ2 0 0) (hZ : fw_isZ K) (hF : Fin K none none L9) {j0 : Nat} {L : LH} {mc ms : Nat} (h : f_J2_clear j0 L = some (r9, L9, mc, ms)) : AW K L mc ms 0 [(0, aR (some j0))] [] := by
  unfold f_J2_clear at h
  refine aw_aload_n hK 0 dJ2_clear_0 rfl rfl ?_
  refine aw_dup hK dJ2_clear_1 rfl ?_
  refine aw_gI hK fw_c4 0 (by decide) rfl q157 (fw_same hK q158) dJ2_clear_2 h (fun v1 h => ?_)
  refine aw_iconst (v := (nI 1)) hK dJ2_clear_5 rfl ?_
  refine aw_iadd hK dJ2_clear_6 ?_
  refine aw_pI hK fw_c4 0 (by decide) rfl q157 (fw_same hK q158) rfl rfl rfl dJ2_clear_7 h (fun L2 h => ?_)
  refine aw_aload_n hK 0 dJ2_clear_10 rfl rfl ?_
  refine aw_gR hK fw_c4 1 (by decide) rfl q154 (fun _ h9 => h9) dJ2_clear_11 h (fun r3 h => ?_)
  refine aw_astore_n (lv' := [(1, aR r3), (0, aR (some j0))]) hK dJ2_clear_14 rfl (by decide) rfl ?_
  refine aw_aload_n hK 1 dJ2_clear_15 rfl rfl ?_
  refine aw_gI hK fw_c4 2 (by decide) rfl q155 (fun _ h9 => h9) dJ2_clear_16 h (fun v4 h => ?_)
  refine aw_istore_n (lv' := [(2, aI v4), (1, aR r3), (0, aR (some j0))]) hK dJ2_clear_19 rfl (by decide) rfl ?_
  refine aw_aload_n hK 2 dJ2_clear_20 rfl rfl ?_
  refine aw_iconst (v := (nI 0)) hK dJ2_clear_21 rfl ?_
  refine aw_dup_x1 hK dJ2_clear_22 rfl rfl ?_
  refine aw_pI hK fw_c4 2 (by decide) rfl q155 (fun _ h9 => h9) rfl rfl rfl dJ2_clear_23 h (fun L5 h => ?_)
  refine aw_istore_n (lv' := [(3, aI (nI 0)), (2, aI v4), (1, aR r3), (0, aR (some j0))]) hK dJ2_clear_26 rfl (by decide) rfl ?_
  exact aw_sub [2, 1, 0] rfl (w_J2_clear_27 hK hZ hF h)
theorem ct_J2_clear {j0 : Nat} {L : LH} {r9 : Unit} {L9 : LH} {mc ms : Nat} (h : f_J2_clear j0 L = some (r9, L9, mc, ms)) : fw_Cx yJ2_clear (ws_ yJ2_clear cJ2_clear 4 none) 0 0 [aR (some j0)] L none L9 mc ms :=
  fun b1 b2 => ct_of (own := RJ2) fw_ZX_ok (by decide +kernel) rfl (Nat.le_of_ble_eq_true rfl) (fun K hZ hK hF hini => w_J2_clear_0 hK ⟨b1, b2, hZ⟩ hF h)
def f_J2_size (j0 : Nat) (L : LH) : Rs Int32 :=
  fw_gI 5 L j0 2 fun v1 =>
  some (v1, L, 0, 0)
set_option maxHeartbeats 4000000 in
set_option maxRecDepth 100000 in
theorem w_J2_size_0 {K : Kx} {r9 : Int32} {L9 : LH} (hK : Ok K cJ2_size 1 RJ2 0 0) (hZ : fw_isZ K) (hF : Fin K (some (.int)) (some (aI r9)) L9) {j0 : Nat} {L : LH} {mc ms : Nat} (h : f_J2_size j0 L = some (r9, L9, mc, ms)) : AW K L mc ms 0 [(0, aR (some j0))] [] := by
  unfold f_J2_size at h
  refine aw_aload_n hK 0 dJ2_size_0 rfl rfl ?_
  refine aw_gI hK fw_c4 2 (by decide) rfl q155 (fun _ h9 => h9) dJ2_size_1 h (fun v1 h => ?_)
  exact aw_iret hK dJ2_size_4 h hF
theorem ct_J2_size {j0 : Nat} {L : LH} {r9 : Int32} {L9 : LH} {mc ms : Nat} (h : f_J2_size j0 L = some (r9, L9, mc, ms)) : fw_Cx yJ2_size (ws_ yJ2_size cJ2_size 1 (some (.int))) 0 0 [aR (some j0)] L (some (aI r9)) L9 mc ms :=
  fun b1 b2 => ct_of (own := RJ2) fw_ZX_ok (by decide +kernel) rfl (Nat.le_of_ble_eq_true rfl) (fun K hZ hK hF hini => w_J2_size_0 hK ⟨b1, b2, hZ⟩ hF h)
def f_J2_grow_2_20 (j0 : Nat) (x1 : Int32) (x2 : Int32) (L : LH) : Rs (Option Nat) :=
  none
def f_J2_grow_2 (j0 : Nat) (x1 : Int32) (L : LH) : Rs (Option Nat) :=
  fw_gR 5 L j0 1 fun r1 =>
  fw_nn r1 fun j2 =>
  fw_alx L j2 fun v4 =>
  if 0 < v4 then (
    f_J2_grow_2_20 j0 x1 v4 L
  ) else (
    fw_gR 5 L j0 1 fun r5 =>
    fw_isD L r5 (
      fw_na 105 (fw_max (nI 10) x1) L fun j6 L7 =>
      fw_pR 5 L7 j0 1 (some j6) fun L8 =>
      some ((some j6), L8, 0, 0)
    ) (
      f_J2_grow_2_20 j0 x1 v4 L
    )
  )
set_option maxHeartbeats 4000000 in
set_option maxRecDepth 100000 in
theorem w_J2_grow_2_20 {K : Kx} {r9 : (Option Nat)} {L9 : LH} (hK : Ok K cJ2_grow_2 4 RJ2 1 24) (hZ : fw_isZ K) (hF : Fin K (some (.array (.object "java/lang/Object"))) (some (aR r9)) L9) {j0 : Nat} {x1 : Int32} {x2 : Int32} {L : LH} {mc ms : Nat} (h : f_J2_grow_2_20 j0 x1 x2 L = some (r9, L9, mc, ms)) : AW K L mc ms 20 [(0, aR (some j0)), (1, aI x1), (2, aI x2)] [] := by
  unfold f_J2_grow_2_20 at h
  exact (fw_no h).elim
set_option maxHeartbeats 4000000 in
set_option maxRecDepth 100000 in
theorem w_J2_grow_2_0 {K : Kx} {r9 : (Option Nat)} {L9 : LH} (hK : Ok K cJ2_grow_2 4 RJ2 1 24) (hZ : fw_isZ K) (hF : Fin K (some (.array (.object "java/lang/Object"))) (some (aR r9)) L9) {j0 : Nat} {x1 : Int32} {L : LH} {mc ms : Nat} (h : f_J2_grow_2 j0 x1 L = some (r9, L9, mc, ms)) : AW K L mc ms 0 [(0, aR (some j0)), (1, aI x1)] [] := by
  unfold f_J2_grow_2 at h
  refine aw_aload_n hK 0 dJ2_grow_2_0 rfl rfl ?_
  refine aw_gR hK fw_c4 1 (by decide) rfl q154 (fun _ h9 => h9) dJ2_grow_2_1 h (fun r1 h => ?_)
  obtain _ | j2 := r1
  · exact (fw_nn_no h).elim
  replace h := fw_nn_so h
  refine aw_alx hK hZ dJ2_grow_2_4 h (fun v4 h => ?_)
  refine aw_istore_n (lv' := [(2, aI v4), (0, aR (some j0)), (1, aI x1)]) hK dJ2_grow_2_5 rfl (by decide) rfl ?_
  refine aw_iload_n hK 0 dJ2_grow_2_6 rfl rfl ?_
  refine aw_if_gt (tgt := 20) hK dJ2_grow_2_7 (by decide) h (fun h => ?_) (fun h => ?_)
  · exact aw_sub [1, 2, 0] rfl (w_J2_grow_2_20 hK hZ hF h)
  · refine aw_aload_n hK 1 dJ2_grow_2_10 rfl rfl ?_
    refine aw_gR hK fw_c4 1 (by decide) rfl q154 (fun _ h9 => h9) dJ2_grow_2_11 h (fun r5 h => ?_)
    refine aw_getsR hK 4 (fw_zx hK hZ).2.1.1 (hK.ts _ q152) (fun _ h9 => h9) dJ2_grow_2_14 ?_
    refine aw_acmpeqD (tgt := 45) hK hZ dJ2_grow_2_17 (by decide) h (fun h => ?_) (fun h => ?_)
    · refine aw_aload_n hK 1 dJ2_grow_2_45 rfl rfl ?_
      refine aw_bipush (v := (nI 10)) hK dJ2_grow_2_46 rfl ?_
      refine aw_iload_n hK 2 dJ2_grow_2_48 rfl rfl ?_
      refine aw_max hK q636 q495 q109 q496 dJ2_grow_2_49 ⟨by decide, Nat.le_of_ble_eq_true rfl⟩ ?_
      refine aw_anew hK hZ 5 (by decide) rfl q637 dJ2_grow_2_52 h (fun j6 L7 _ _ h => ?_)
      refine aw_dup_x1 hK dJ2_grow_2_55 rfl rfl ?_
      refine aw_pR hK fw_c4 1 (by decide) rfl q154 (fun _ h9 => h9) rfl (fun r => by cases r <;> exact ⟨rfl, rfl⟩) dJ2_grow_2_56 h (fun L8 h => ?_)
      exact aw_aret hK rfl dJ2_grow_2_59 h hF
    · exact aw_sub [1, 2, 0] rfl (w_J2_grow_2_20 hK hZ hF h)
theorem ct_J2_grow_2 {j0 : Nat} {x1 : Int32} {L : LH} {r9 : (Option Nat)} {L9 : LH} {mc ms : Nat} (h : f_J2_grow_2 j0 x1 L = some (r9, L9, mc, ms)) : fw_Cx yJ2_grow_2 (ws_ yJ2_grow_2 cJ2_grow_2 4 (some (.array (.object "java/lang/Object")))) 1 24 [aR (some j0), aI x1] L (some (aR r9)) L9 mc ms :=
  fun b1 b2 => ct_of (own := RJ2) fw_ZX_ok (by decide +kernel) rfl (Nat.le_of_ble_eq_true rfl) (fun K hZ hK hF hini => w_J2_grow_2_0 hK ⟨b1, b2, hZ⟩ hF h)
def f_J2_elementData (j0 : Nat) (x1 : Int32) (L : LH) : Rs (Option Nat) :=
  fw_gR 5 L j0 1 fun r1 =>
  fw_nn r1 fun j2 =>
  fw_rq 105 L j2 x1 fun r3 =>
  some (r3, L, 0, 0)
set_option maxHeartbeats 4000000 in
set_option maxRecDepth 100000 in
theorem w_J2_elementData_0 {K : Kx} {r9 : (Option Nat)} {L9 : LH} (hK : Ok K cJ2_elementData 2 RJ2 0 0) (hZ : fw_isZ K) (hF : Fin K (some (.object "java/lang/Object")) (some (aR r9)) L9) {j0 : Nat} {x1 : Int32} {L : LH} {mc ms : Nat} (h : f_J2_elementData j0 x1 L = some (r9, L9, mc, ms)) : AW K L mc ms 0 [(0, aR (some j0)), (1, aI x1)] [] := by
  unfold f_J2_elementData at h
  refine aw_aload_n hK 0 dJ2_elementData_0 rfl rfl ?_
  refine aw_gR hK fw_c4 1 (by decide) rfl q154 (fun _ h9 => h9) dJ2_elementData_1 h (fun r1 h => ?_)
  refine aw_iload_n hK 1 dJ2_elementData_4 rfl rfl ?_
  obtain _ | j2 := r1
  · exact (fw_nn_no h).elim
  replace h := fw_nn_so h
  refine aw_aald hK 5 (by decide) rfl dJ2_elementData_5 h (fun r3 h => ?_)
  exact aw_aret hK rfl dJ2_elementData_6 h hF
theorem ct_J2_elementData {j0 : Nat} {x1 : Int32} {L : LH} {r9 : (Option Nat)} {L9 : LH} {mc ms : Nat} (h : f_J2_elementData j0 x1 L = some (r9, L9, mc, ms)) : fw_Cx yJ2_elementData (ws_ yJ2_elementData cJ2_elementData 2 (some (.object "java/lang/Object"))) 0 0 [aR (some j0), aI x1] L (some (aR r9)) L9 mc ms :=
  fun b1 b2 => ct_of (own := RJ2) fw_ZX_ok (by decide +kernel) rfl (Nat.le_of_ble_eq_true rfl) (fun K hZ hK hF hini => w_J2_elementData_0 hK ⟨b1, b2, hZ⟩ hF h)
def f_J2_isEmpty (j0 : Nat) (L : LH) : Rs Int32 :=
  fw_gI 5 L j0 2 fun v1 =>
  if v1 = 0 then (
    some ((nI 1), L, 0, 0)
  ) else (
    some ((nI 0), L, 0, 0)
  )
set_option maxHeartbeats 4000000 in
set_option maxRecDepth 100000 in
theorem w_J2_isEmpty_0 {K : Kx} {r9 : Int32} {L9 : LH} (hK : Ok K cJ2_isEmpty 1 RJ2 0 0) (hZ : fw_isZ K) (hF : Fin K (some (.boolean)) (some (aI r9)) L9) {j0 : Nat} {L : LH} {mc ms : Nat} (h : f_J2_isEmpty j0 L = some (r9, L9, mc, ms)) : AW K L mc ms 0 [(0, aR (some j0))] [] := by
  unfold f_J2_isEmpty at h
  refine aw_aload_n hK 0 dJ2_isEmpty_0 rfl rfl ?_
  refine aw_gI hK fw_c4 2 (by decide) rfl q155 (fun _ h9 => h9) dJ2_isEmpty_1 h (fun v1 h => ?_)
  refine aw_if_ne (tgt := 11) hK dJ2_isEmpty_4 (by decide) h (fun h => ?_) (fun h => ?_)
  · refine aw_iconst (v := (nI 0)) hK dJ2_isEmpty_11 rfl ?_
    exact aw_zret hK (by decide) dJ2_isEmpty_12 h hF
  · refine aw_iconst (v := (nI 1)) hK dJ2_isEmpty_7 rfl ?_
    refine aw_goto (tgt := 12) hK dJ2_isEmpty_8 (by decide) ?_
    exact aw_zret hK (by decide) dJ2_isEmpty_12 h hF
theorem ct_J2_isEmpty {j0 : Nat} {L : LH} {r9 : Int32} {L9 : LH} {mc ms : Nat} (h : f_J2_isEmpty j0 L = some (r9, L9, mc, ms)) : fw_Cx yJ2_isEmpty (ws_ yJ2_isEmpty cJ2_isEmpty 1 (some (.boolean))) 0 0 [aR (some j0)] L (some (aI r9)) L9 mc ms :=
  fun b1 b2 => ct_of (own := RJ2) fw_ZX_ok (by decide +kernel) rfl (Nat.le_of_ble_eq_true rfl) (fun K hZ hK hF hini => w_J2_isEmpty_0 hK ⟨b1, b2, hZ⟩ hF h)
def f_J2_fastRemove_34 (j0 : Nat) (rp1 : Option Nat) (x3 : Int32) (L : LH) : Rs Unit :=
  fw_pI 5 L j0 2 x3 fun L1 =>
  fw_nn rp1 fun j2 =>
  fw_wqa 5 L1 j2 x3 none fun L3 =>
  some ((), L3, 0, 0)
def f_J2_fastRemove (j0 : Nat) (rp1 : Option Nat) (x2 : Int32) (L : LH) : Rs Unit :=
  fw_gI 5 L j0 0 fun v1 =>
  fw_pI 5 L j0 0 (v1 + (nI 1)) fun L2 =>
  fw_gI 5 L2 j0 2 fun v3 =>
  if (v3 - (nI 1)) ≤ x2 then (
    f_J2_fastRemove_34 j0 rp1 (v3 - (nI 1)) L2
  ) else (
    none
  )
set_option maxHeartbeats 4000000 in
set_option maxRecDepth 100000 in
theorem w_J2_fastRemove_34 {K : Kx} {r9 : Unit} {L9 : LH} (hK : Ok K cJ2_fastRemove 4 RJ2 0 0) (hZ : fw_isZ K) (hF : Fin K none none L9) {j0 : Nat} {rp1 : Option Nat} {x3 : Int32} {L : LH} {mc ms : Nat} (h : f_J2_fastRemove_34 j0 rp1 x3 L = some (r9, L9, mc, ms)) : AW K L mc ms 34 [(0, aR (some j0)), (1, aR rp1), (3, aI x3)] [] := by
  unfold f_J2_fastRemove_34 at h
  refine aw_aload_n hK 1 dJ2_fastRemove_34 rfl rfl ?_
  refine aw_aload_n hK 0 dJ2_fastRemove_35 rfl rfl ?_
  refine aw_iload_n hK 2 dJ2_fastRemove_36 rfl rfl ?_
  refine aw_dup_x1 hK dJ2_fastRemove_37 rfl rfl ?_
  refine aw_pI hK fw_c4 2 (by decide) rfl q155 (fun _ h9 => h9) rfl rfl rfl dJ2_fastRemove_38 h (fun L1 h => ?_)
  refine aw_null hK dJ2_fastRemove_41 ?_
  obtain _ | j2 := rp1
  · exact (fw_nn_no h).elim
  replace h := fw_nn_so h
  refine aw_aast hK hZ 5 (by decide) dJ2_fastRemove_42 h (fun L3 h => ?_)
  exact aw_vret hK dJ2_fastRemove_43 h hF
set_option maxHeartbeats 4000000 in
set_option maxRecDepth 100000 in
theorem w_J2_fastRemove_0 {K : Kx} {r9 : Unit} {L9 : LH} (hK : Ok K cJ2_fastRemove 4 RJ2 0 0) (hZ : fw_isZ K) (hF : Fin K none none L9) {j0 : Nat} {rp1 : Option Nat} {x2 : Int32} {L : LH} {mc ms : Nat} (h : f_J2_fastRemove j0 rp1 x2 L = some (r9, L9, mc, ms)) : AW K L mc ms 0 [(0, aR (some j0)), (1, aR rp1), (2, aI x2)] [] := by
  unfold f_J2_fastRemove at h
  refine aw_aload_n hK 0 dJ2_fastRemove_0 rfl rfl ?_
  refine aw_dup hK dJ2_fastRemove_1 rfl ?_
  refine aw_gI hK fw_c4 0 (by decide) rfl q157 (fw_same hK q158) dJ2_fastRemove_2 h (fun v1 h => ?_)
  refine aw_iconst (v := (nI 1)) hK dJ2_fastRemove_5 rfl ?_
  refine aw_iadd hK dJ2_fastRemove_6 ?_
  refine aw_pI hK fw_c4 0 (by decide) rfl q157 (fw_same hK q158) rfl rfl rfl dJ2_fastRemove_7 h (fun L2 h => ?_)
  refine aw_aload_n hK 0 dJ2_fastRemove_10 rfl rfl ?_
  refine aw_gI hK fw_c4 2 (by decide) rfl q155 (fun _ h9 => h9) dJ2_fastRemove_11 h (fun v3 h => ?_)
  refine aw_iconst (v := (nI 1)) hK dJ2_fastRemove_14 rfl ?_
  refine aw_isub hK dJ2_fastRemove_15 ?_
  refine aw_dup hK dJ2_fastRemove_16 rfl ?_
  refine aw_istore_n (lv' := [(3, aI (v3 - (nI 1))), (0, aR (some j0)), (1, aR rp1), (2, aI x2)]) hK dJ2_fastRemove_17 rfl (by decide) rfl ?_
  refine aw_iload_n hK 3 dJ2_fastRemove_18 rfl rfl ?_
  refine aw_icmp_le (tgt := 34) hK dJ2_fastRemove_19 (by decide) h (fun h => ?_) (fun h => ?_)
  · exact aw_sub [1, 2, 0] rfl (w_J2_fastRemove_34 hK hZ hF h)
  · exact (fw_no h).elim
theorem ct_J2_fastRemove {j0 : Nat} {rp1 : Option Nat} {x2 : Int32} {L : LH} {r9 : Unit} {L9 : LH} {mc ms : Nat} (h : f_J2_fastRemove j0 rp1 x2 L = some (r9, L9, mc, ms)) : fw_Cx yJ2_fastRemove (ws_ yJ2_fastRemove cJ2_fastRemove 4 none) 0 0 [aR (some j0), aR rp1, aI x2] L none L9 mc ms :=
  fun b1 b2 => ct_of (own := RJ2) fw_ZX_ok (by decide +kernel) rfl (Nat.le_of_ble_eq_true rfl) (fun K hZ hK hF hini => w_J2_fastRemove_0 hK ⟨b1, b2, hZ⟩ hF h)
def f_J3_fill_5 : Nat → Option Nat → Int32 → Int32 → Int32 → LH → Rs Unit
  | 0, _, _, _, _, _ => none
  | n + 1, rp0, x1, x2, x3, L =>
    if x3 ≤ x2 then (
      some ((), L, 0, 0)
    ) else (
      fw_nn rp0 fun j1 =>
      fw_wr 100 L j1 x2 x1 fun L2 =>
      f_J3_fill_5 n (some j1) x1 (x2 + (nI 1)) x3 L2
    )
def f_J3_fill (rp0 : Option Nat) (x1 : Int32) (L : LH) : Rs Unit :=
  fw_nn rp0 fun j1 =>
  fw_al L j1 fun v3 =>
  f_J3_fill_5 fw_fuel (some j1) x1 (nI 0) v3 L
set_option maxHeartbeats 4000000 in
set_option maxRecDepth 100000 in
theorem w_J3_fill_5 {K : Kx} {r9 : Unit} {L9 : LH} (hK : Ok K cJ3_fill 4 RJ3 0 0) (hZ : fw_isZ K) (hF : Fin K none none L9) : ∀ {n : Nat} {rp0 : Option Nat} {x1 : Int32} {x2 : Int32} {x3 : Int32} {L : LH} {mc ms : Nat}, f_J3_fill_5 n rp0 x1 x2 x3 L = some (r9, L9, mc, ms) → AW K L mc ms 5 [(0, aR rp0), (1, aI x1), (2, aI x2), (3, aI x3)] [] := by
  intro n
  induction n with
  | zero =>
    intro rp0 x1 x2 x3 L mc ms h
    have h : (none : Rs Unit) = some (r9, L9, mc, ms) := h
    cases h
  | succ n ih =>
    intro rp0 x1 x2 x3 L mc ms h
    unfold f_J3_fill_5 at h
    refine aw_iload_n hK 2 dJ3_fill_5 rfl rfl ?_
    refine aw_iload_n hK 3 dJ3_fill_6 rfl rfl ?_
    refine aw_icmp_ge (tgt := 20) hK dJ3_fill_7 (by decide) h (fun h => ?_) (fun h => ?_)
    · exact aw_vret hK dJ3_fill_20 h hF
    · refine aw_aload_n hK 0 dJ3_fill_10 rfl rfl ?_
      refine aw_iload_n hK 2 dJ3_fill_11 rfl rfl ?_
      refine aw_iload_n hK 1 dJ3_fill_12 rfl rfl ?_
      obtain _ | j1 := rp0
      · exact (fw_nn_no h).elim
      replace h := fw_nn_so h
      refine aw_iast hK dJ3_fill_13 h (fun L2 h => ?_)
      refine aw_iinc (v := (x2 + (nI 1))) (lv' := [(2, aI (x2 + (nI 1))), (0, aR (some j1)), (1, aI x1), (3, aI x3)]) hK 2 dJ3_fill_14 rfl rfl (by decide) rfl ?_
      refine aw_goto (tgt := 5) hK dJ3_fill_17 (by decide) ?_
      exact aw_sub [1, 2, 0, 3] rfl (ih h)
set_option maxHeartbeats 4000000 in
set_option maxRecDepth 100000 in
theorem w_J3_fill_0 {K : Kx} {r9 : Unit} {L9 : LH} (hK : Ok K cJ3_fill 4 RJ3 0 0) (hZ : fw_isZ K) (hF : Fin K none none L9) {rp0 : Option Nat} {x1 : Int32} {L : LH} {mc ms : Nat} (h : f_J3_fill rp0 x1 L = some (r9, L9, mc, ms)) : AW K L mc ms 0 [(0, aR rp0), (1, aI x1)] [] := by
  unfold f_J3_fill at h
  refine aw_iconst (v := (nI 0)) hK dJ3_fill_0 rfl ?_
  refine aw_istore_n (lv' := [(2, aI (nI 0)), (0, aR rp0), (1, aI x1)]) hK dJ3_fill_1 rfl (by decide) rfl ?_
  refine aw_aload_n hK 1 dJ3_fill_2 rfl rfl ?_
  obtain _ | j1 := rp0
  · exact (fw_nn_no h).elim
  replace h := fw_nn_so h
  refine aw_alv hK dJ3_fill_3 h (fun v3 h => ?_)
  refine aw_istore_n (lv' := [(3, aI v3), (2, aI (nI 0)), (0, aR (some j1)), (1, aI x1)]) hK dJ3_fill_4 rfl (by decide) rfl ?_
  exact aw_sub [2, 3, 1, 0] rfl (w_J3_fill_5 hK hZ hF h)
theorem ct_J3_fill {rp0 : Option Nat} {x1 : Int32} {L : LH} {r9 : Unit} {L9 : LH} {mc ms : Nat} (h : f_J3_fill rp0 x1 L = some (r9, L9, mc, ms)) : fw_Cx yJ3_fill (ws_ yJ3_fill cJ3_fill 4 none) 0 0 [aR rp0, aI x1] L none L9 mc ms :=
  fun b1 b2 => ct_of (own := RJ3) fw_ZX_ok (by decide +kernel) rfl (Nat.le_of_ble_eq_true rfl) (fun K hZ hK hF hini => w_J3_fill_0 hK ⟨b1, b2, hZ⟩ hF h)
def f_J4_init_2_41 (b1 b2 : Bool) (j0 : Nat) (rp1 : Option Nat) (rp2 : Option Nat) (x3 : Int32) (L : LH) : Rs Unit :=
  fw_pR 7 L j0 3 rp1 fun L1 =>
  fw_pR 7 L1 j0 0 rp2 fun L2 =>
  if x3 = 0 then (
    fw_pR 7 L2 j0 2 none fun L3 =>
    some ((), L3, 0, 0)
  ) else (
    some ((), L2, 0, 0)
  )
def f_J4_init_2 (b1 b2 : Bool) (j0 : Nat) (rp1 : Option Nat) (rp2 : Option Nat) (x3 : Int32) (x4 : Int32) (L : LH) : Rs Unit :=
  fw_pR 7 L j0 0 (some j0) fun L1 =>
  fw_pR 7 L1 j0 1 (fw_un b1 13) fun L2 =>
  fw_pR 7 L2 j0 2 (fw_un b2 14) fun L3 =>
  if x4 = 0 then (
    fw_pR 7 L3 j0 1 none fun L4 =>
    f_J4_init_2_41 b1 b2 j0 rp1 rp2 x3 L4
  ) else (
    none
  )
set_option maxHeartbeats 4000000 in
set_option maxRecDepth 100000 in
theorem w_J4_init_2_41 {b1 b2 : Bool} {K : Kx} {r9 : Unit} {L9 : LH} (hK : Ok K cJ4_init_2 5 RJ4 1 20) (hZ : kx_Z K = fw_ZX b1 b2) (hini : (kx_me K).name = "<init>") (hF : Fin K none none L9) {j0 : Nat} {rp1 : Option Nat} {rp2 : Option Nat} {x3 : Int32} {L : LH} {mc ms : Nat} (h : f_J4_init_2_41 b1 b2 j0 rp1 rp2 x3 L = some (r9, L9, mc, ms)) : AW K L mc ms 41 [(0, aR (some j0)), (1, aR rp1), (2, aR rp2), (3, aI x3)] [] := by
  unfold f_J4_init_2_41 at h
  refine aw_aload_n hK 0 dJ4_init_2_41 rfl rfl ?_
  refine aw_aload_n hK 1 dJ4_init_2_42 rfl rfl ?_
  refine aw_pR hK fw_c6 3 (by decide) rfl q439 (fun _ h9 => h9) rfl (fun r => by cases r <;> exact ⟨rfl, rfl⟩) dJ4_init_2_43 h (fun L1 h => ?_)
  refine aw_aload_n hK 0 dJ4_init_2_46 rfl rfl ?_
  refine aw_aload_n hK 2 dJ4_init_2_47 rfl rfl ?_
  refine aw_pR hK fw_c6 0 (by decide) rfl q440 (fun _ h9 => h9) rfl (fun r => by cases r <;> exact ⟨rfl, rfl⟩) dJ4_init_2_48 h (fun L2 h => ?_)
  refine aw_iload_n hK 3 dJ4_init_2_51 rfl rfl ?_
  refine aw_if_ne (tgt := 60) hK dJ4_init_2_52 (by decide) h (fun h => ?_) (fun h => ?_)
  · exact aw_vret hK dJ4_init_2_60 h hF
  · refine aw_aload_n hK 0 dJ4_init_2_55 rfl rfl ?_
    refine aw_null hK dJ4_init_2_56 ?_
    refine aw_pR hK fw_c6 2 (by decide) rfl q442 (fun _ h9 => h9) rfl (fun r => by cases r <;> exact ⟨rfl, rfl⟩) dJ4_init_2_57 h (fun L3 h => ?_)
    exact aw_vret hK dJ4_init_2_60 h hF
set_option maxHeartbeats 4000000 in
set_option maxRecDepth 100000 in
theorem w_J4_init_2_0 {b1 b2 : Bool} {K : Kx} {r9 : Unit} {L9 : LH} (hK : Ok K cJ4_init_2 5 RJ4 1 20) (hZ : kx_Z K = fw_ZX b1 b2) (hini : (kx_me K).name = "<init>") (hF : Fin K none none L9) {j0 : Nat} {rp1 : Option Nat} {rp2 : Option Nat} {x3 : Int32} {x4 : Int32} {L : LH} {mc ms : Nat} (h : f_J4_init_2 b1 b2 j0 rp1 rp2 x3 x4 L = some (r9, L9, mc, ms)) : AW K L mc ms 0 [(0, aR (some j0)), (1, aR rp1), (2, aR rp2), (3, aI x3), (4, aI x4)] [] := by
  unfold f_J4_init_2 at h
  refine aw_aload_n hK 0 dJ4_init_2_0 rfl rfl ?_
  refine aw_objInit hK q410 q128 q129 dJ4_init_2_1 (by decide) (Nat.le_of_ble_eq_true rfl) ?_
  refine aw_aload_n hK 0 dJ4_init_2_4 rfl rfl ?_
  refine aw_aload_n hK 0 dJ4_init_2_5 rfl rfl ?_
  refine aw_pR hK fw_c6 0 (by decide) rfl q440 (fun _ h9 => h9) rfl (fun r => by cases r <;> exact ⟨rfl, rfl⟩) dJ4_init_2_6 h (fun L1 h => ?_)
  refine aw_aload_n hK 0 dJ4_init_2_9 rfl rfl ?_
  refine aw_getsU hK b1 13 (fw_zxb hK hZ).2.1 (hK.ts _ q411) (fun _ h9 => h9) dJ4_init_2_10 ?_
  refine aw_pR hK fw_c6 1 (by decide) rfl q441 (fun _ h9 => h9) rfl (fun r => by cases r <;> exact ⟨rfl, rfl⟩) dJ4_init_2_13 h (fun L2 h => ?_)
  refine aw_aload_n hK 0 dJ4_init_2_16 rfl rfl ?_
  refine aw_getsU hK b2 14 (fw_zxb hK hZ).2.2 (hK.ts _ q413) (fun _ h9 => h9) dJ4_init_2_17 ?_
  refine aw_pR hK fw_c6 2 (by decide) rfl q442 (fun _ h9 => h9) rfl (fun r => by cases r <;> exact ⟨rfl, rfl⟩) dJ4_init_2_20 h (fun L3 h => ?_)
  refine aw_iload hK 4 dJ4_init_2_23 rfl ?_
  refine aw_if_eq (tgt := 36) hK dJ4_init_2_25 (by decide) h (fun h => ?_) (fun h => ?_)
  · refine aw_aload_n hK 0 dJ4_init_2_36 rfl rfl ?_
    refine aw_null hK dJ4_init_2_37 ?_
    refine aw_pR hK fw_c6 1 (by decide) rfl q441 (fun _ h9 => h9) rfl (fun r => by cases r <;> exact ⟨rfl, rfl⟩) dJ4_init_2_38 h (fun L4 h => ?_)
    exact aw_sub [0, 1, 2, 3] rfl (w_J4_init_2_41 hK hZ hini hF h)
  · exact (fw_no h).elim
theorem ct_J4_init_2 {b1 b2 : Bool} {j0 : Nat} {rp1 : Option Nat} {rp2 : Option Nat} {x3 : Int32} {x4 : Int32} {L : LH} {r9 : Unit} {L9 : LH} {mc ms : Nat} (h : f_J4_init_2 b1 b2 j0 rp1 rp2 x3 x4 L = some (r9, L9, mc, ms)) : Ct (fw_ZX b1 b2) yJ4_init_2 (ws_ yJ4_init_2 cJ4_init_2 5 none) 1 20 [aR (some j0), aR rp1, aR rp2, aI x3, aI x4] L none L9 mc ms :=
  ct_of (own := RJ4) fw_ZX_ok (by decide +kernel) rfl (Nat.le_of_ble_eq_true rfl) (fun K hZ hK hF hini => w_J4_init_2_0 hK hZ hini hF h)
def f_J5_init (b1 b2 : Bool) (j0 : Nat) (rp1 : Option Nat) (rp2 : Option Nat) (x3 : Int32) (x4 : Int32) (L : LH) : Rs Unit :=
  fw_cl (f_J4_init_2 b1 b2 j0 rp1 rp2 x3 x4 L) fun _ L1 =>
  some ((), L1, 0, 0)
set_option maxHeartbeats 4000000 in
set_option maxRecDepth 100000 in
theorem w_J5_init_0 {b1 b2 : Bool} {K : Kx} {r9 : Unit} {L9 : LH} (hK : Ok K cJ5_init 5 RJ5 2 44) (hZ : kx_Z K = fw_ZX b1 b2) (hini : (kx_me K).name = "<init>") (hF : Fin K none none L9) {j0 : Nat} {rp1 : Option Nat} {rp2 : Option Nat} {x3 : Int32} {x4 : Int32} {L : LH} {mc ms : Nat} (h : f_J5_init b1 b2 j0 rp1 rp2 x3 x4 L = some (r9, L9, mc, ms)) : AW K L mc ms 0 [(0, aR (some j0)), (1, aR rp1), (2, aR rp2), (3, aI x3), (4, aI x4)] [] := by
  unfold f_J5_init at h
  refine aw_aload_n hK 0 dJ5_init_0 rfl rfl ?_
  refine aw_aload_n hK 1 dJ5_init_1 rfl rfl ?_
  refine aw_aload_n hK 2 dJ5_init_2 rfl rfl ?_
  refine aw_iload_n hK 3 dJ5_init_3 rfl rfl ?_
  refine aw_iload hK 4 dJ5_init_4 rfl ?_
  refine aw_callI (n := 4) (As := [aR rp1, aR rp2, aI x3, aI x4]) hK (fun _ _ _ _ q => (by rw [hZ]; exact ct_J4_init_2 q)) (lw_meth q435) q104 q433 q434 rfl (by decide +kernel) (by decide) rfl rfl (Nat.le_of_ble_eq_true rfl) dJ5_init_6 h (fun L1 _ _ h => ?_)
  exact aw_vret hK dJ5_init_9 h hF
theorem ct_J5_init {b1 b2 : Bool} {j0 : Nat} {rp1 : Option Nat} {rp2 : Option Nat} {x3 : Int32} {x4 : Int32} {L : LH} {r9 : Unit} {L9 : LH} {mc ms : Nat} (h : f_J5_init b1 b2 j0 rp1 rp2 x3 x4 L = some (r9, L9, mc, ms)) : Ct (fw_ZX b1 b2) yJ5_init (ws_ yJ5_init cJ5_init 5 none) 2 44 [aR (some j0), aR rp1, aR rp2, aI x3, aI x4] L none L9 mc ms :=
  ct_of (own := RJ5) fw_ZX_ok (by decide +kernel) rfl (Nat.le_of_ble_eq_true rfl) (fun K hZ hK hF hini => w_J5_init_0 hK hZ hini hF h)
def f_J6_isLatin1 (j0 : Nat) (L : LH) : Rs Int32 :=
  if (nI 1) = 0 then (
    some ((nI 0), L, 0, 0)
  ) else (
    fw_sc j0 fun v1 =>
    if (nI 0) = 0 then (
      some ((nI 1), L, 0, 0)
    ) else (
      some ((nI 0), L, 0, 0)
    )
  )
set_option maxHeartbeats 4000000 in
set_option maxRecDepth 100000 in
theorem w_J6_isLatin1_0 {K : Kx} {r9 : Int32} {L9 : LH} (hK : Ok K cJ6_isLatin1 1 RJ6 0 0) (hZ : fw_isZ K) (hF : Fin K (some (.boolean)) (some (aI r9)) L9) {j0 : Nat} {L : LH} {mc ms : Nat} (h : f_J6_isLatin1 j0 L = some (r9, L9, mc, ms)) : AW K L mc ms 0 [(0, aR (some j0))] [] := by
  unfold f_J6_isLatin1 at h
  refine aw_getsI hK (fw_zx hK hZ).2.2.1.2 (hK.ts _ q478) (fun _ h9 => h9) dJ6_isLatin1_0 ?_
  refine aw_if_eq (tgt := 17) hK dJ6_isLatin1_3 (by decide) h (fun h => ?_) (fun h => ?_)
  · refine aw_iconst (v := (nI 0)) hK dJ6_isLatin1_17 rfl ?_
    exact aw_zret hK (by decide) dJ6_isLatin1_18 h hF
  · refine aw_aload_n hK 0 dJ6_isLatin1_6 rfl rfl ?_
    refine aw_sc hK hZ q1758 (fun _ h9 => h9) dJ6_isLatin1_7 h (fun h => ?_)
    refine aw_if_ne (tgt := 17) hK dJ6_isLatin1_10 (by decide) h (fun h => ?_) (fun h => ?_)
    · refine aw_iconst (v := (nI 0)) hK dJ6_isLatin1_17 rfl ?_
      exact aw_zret hK (by decide) dJ6_isLatin1_18 h hF
    · refine aw_iconst (v := (nI 1)) hK dJ6_isLatin1_13 rfl ?_
      refine aw_goto (tgt := 18) hK dJ6_isLatin1_14 (by decide) ?_
      exact aw_zret hK (by decide) dJ6_isLatin1_18 h hF
theorem ct_J6_isLatin1 {j0 : Nat} {L : LH} {r9 : Int32} {L9 : LH} {mc ms : Nat} (h : f_J6_isLatin1 j0 L = some (r9, L9, mc, ms)) : fw_Cx yJ6_isLatin1 (ws_ yJ6_isLatin1 cJ6_isLatin1 1 (some (.boolean))) 0 0 [aR (some j0)] L (some (aI r9)) L9 mc ms :=
  fun b1 b2 => ct_of (own := RJ6) fw_ZX_ok (by decide +kernel) rfl (Nat.le_of_ble_eq_true rfl) (fun K hZ hK hF hini => w_J6_isLatin1_0 hK ⟨b1, b2, hZ⟩ hF h)
def f_J6_coder (j0 : Nat) (L : LH) : Rs Int32 :=
  if (nI 1) = 0 then (
    some ((nI 1), L, 0, 0)
  ) else (
    fw_sc j0 fun v1 =>
    some ((nI 0), L, 0, 0)
  )
set_option maxHeartbeats 4000000 in
set_option maxRecDepth 100000 in
theorem w_J6_coder_0 {K : Kx} {r9 : Int32} {L9 : LH} (hK : Ok K cJ6_coder 1 RJ6 0 0) (hZ : fw_isZ K) (hF : Fin K (some (.byte)) (some (aI r9)) L9) {j0 : Nat} {L : LH} {mc ms : Nat} (h : f_J6_coder j0 L = some (r9, L9, mc, ms)) : AW K L mc ms 0 [(0, aR (some j0))] [] := by
  unfold f_J6_coder at h
  refine aw_getsI hK (fw_zx hK hZ).2.2.1.2 (hK.ts _ q478) (fun _ h9 => h9) dJ6_coder_0 ?_
  refine aw_if_eq (tgt := 13) hK dJ6_coder_3 (by decide) h (fun h => ?_) (fun h => ?_)
  · refine aw_iconst (v := (nI 1)) hK dJ6_coder_13 rfl ?_
    exact aw_nret hK rfl dJ6_coder_14 h hF
  · refine aw_aload_n hK 0 dJ6_coder_6 rfl rfl ?_
    refine aw_sc hK hZ q1758 (fun _ h9 => h9) dJ6_coder_7 h (fun h => ?_)
    refine aw_goto (tgt := 14) hK dJ6_coder_10 (by decide) ?_
    exact aw_nret hK rfl dJ6_coder_14 h hF
theorem ct_J6_coder {j0 : Nat} {L : LH} {r9 : Int32} {L9 : LH} {mc ms : Nat} (h : f_J6_coder j0 L = some (r9, L9, mc, ms)) : fw_Cx yJ6_coder (ws_ yJ6_coder cJ6_coder 1 (some (.byte))) 0 0 [aR (some j0)] L (some (aI r9)) L9 mc ms :=
  fun b1 b2 => ct_of (own := RJ6) fw_ZX_ok (by decide +kernel) rfl (Nat.le_of_ble_eq_true rfl) (fun K hZ hK hF hini => w_J6_coder_0 hK ⟨b1, b2, hZ⟩ hF h)
def f_J7_canEncode (x0 : Int32) (L : LH) : Rs Int32 :=
  if x0 < 0 then (
    some ((nI 0), L, 0, 0)
  ) else (
    if (nI 255) < x0 then (
      some ((nI 0), L, 0, 0)
    ) else (
      some ((nI 1), L, 0, 0)
    )
  )
set_option maxHeartbeats 4000000 in
set_option maxRecDepth 100000 in
theorem w_J7_canEncode_0 {K : Kx} {r9 : Int32} {L9 : LH} (hK : Ok K cJ7_canEncode 1 RJ7 0 0) (hZ : fw_isZ K) (hF : Fin K (some (.boolean)) (some (aI r9)) L9) {x0 : Int32} {L : LH} {mc ms : Nat} (h : f_J7_canEncode x0 L = some (r9, L9, mc, ms)) : AW K L mc ms 0 [(0, aI x0)] [] := by
  unfold f_J7_canEncode at h
  refine aw_iload_n hK 0 dJ7_canEncode_0 rfl rfl ?_
  refine aw_if_lt (tgt := 15) hK dJ7_canEncode_1 (by decide) h (fun h => ?_) (fun h => ?_)
  · refine aw_iconst (v := (nI 0)) hK dJ7_canEncode_15 rfl ?_
    exact aw_zret hK (by decide) dJ7_canEncode_16 h hF
  · refine aw_iload_n hK 0 dJ7_canEncode_4 rfl rfl ?_
    refine aw_sipush (v := (nI 255)) hK dJ7_canEncode_5 rfl ?_
    refine aw_icmp_gt (tgt := 15) hK dJ7_canEncode_8 (by decide) h (fun h => ?_) (fun h => ?_)
    · refine aw_iconst (v := (nI 0)) hK dJ7_canEncode_15 rfl ?_
      exact aw_zret hK (by decide) dJ7_canEncode_16 h hF
    · refine aw_iconst (v := (nI 1)) hK dJ7_canEncode_11 rfl ?_
      refine aw_goto (tgt := 16) hK dJ7_canEncode_12 (by decide) ?_
      exact aw_zret hK (by decide) dJ7_canEncode_16 h hF
theorem ct_J7_canEncode {x0 : Int32} {L : LH} {r9 : Int32} {L9 : LH} {mc ms : Nat} (h : f_J7_canEncode x0 L = some (r9, L9, mc, ms)) : fw_Cx yJ7_canEncode (ws_ yJ7_canEncode cJ7_canEncode 1 (some (.boolean))) 0 0 [aI x0] L (some (aI r9)) L9 mc ms :=
  fun b1 b2 => ct_of (own := RJ7) fw_ZX_ok (by decide +kernel) rfl (Nat.le_of_ble_eq_true rfl) (fun K hZ hK hF hini => w_J7_canEncode_0 hK ⟨b1, b2, hZ⟩ hF h)
def f_J7_indexOfChar_7 : Nat → Option Nat → Int32 → Int32 → Int32 → LH → Rs Int32
  | 0, _, _, _, _, _ => none
  | n + 1, rp0, x3, x4, x5, L =>
    if x3 ≤ x5 then (
      some ((-nI 1), L, 0, 0)
    ) else (
      fw_nn rp0 fun j1 =>
      fw_st j1 x5 fun v2 =>
      if v2 = x4 then (
        some (x5, L, 0, 0)
      ) else (
        f_J7_indexOfChar_7 n (some j1) x3 x4 (x5 + (nI 1)) L
      )
    )
def f_J7_indexOfChar (rp0 : Option Nat) (x1 : Int32) (x2 : Int32) (x3 : Int32) (L : LH) : Rs Int32 :=
  f_J7_indexOfChar_7 fw_fuel rp0 x3 x1.toInt8.toInt32 x2 L
set_option maxHeartbeats 4000000 in
set_option maxRecDepth 100000 in
theorem w_J7_indexOfChar_7 {K : Kx} {r9 : Int32} {L9 : LH} (hK : Ok K cJ7_indexOfChar 6 RJ7 0 0) (hZ : fw_isZ K) (hF : Fin K (some (.int)) (some (aI r9)) L9) : ∀ {n : Nat} {rp0 : Option Nat} {x3 : Int32} {x4 : Int32} {x5 : Int32} {L : LH} {mc ms : Nat}, f_J7_indexOfChar_7 n rp0 x3 x4 x5 L = some (r9, L9, mc, ms) → AW K L mc ms 7 [(0, aR rp0), (3, aI x3), (4, aI x4), (5, aI x5)] [] := by
  intro n
  induction n with
  | zero =>
    intro rp0 x3 x4 x5 L mc ms h
    have h : (none : Rs Int32) = some (r9, L9, mc, ms) := h
    cases h
  | succ n ih =>
    intro rp0 x3 x4 x5 L mc ms h
    unfold f_J7_indexOfChar_7 at h
    refine aw_iload hK 3 dJ7_indexOfChar_7 rfl ?_
    refine aw_iload_n hK 1 dJ7_indexOfChar_9 rfl rfl ?_
    refine aw_icmp_ge (tgt := 31) hK dJ7_indexOfChar_10 (by decide) h (fun h => ?_) (fun h => ?_)
    · refine aw_iconst (v := (-nI 1)) hK dJ7_indexOfChar_31 rfl ?_
      exact aw_iret hK dJ7_indexOfChar_32 h hF
    · refine aw_aload_n hK 0 dJ7_indexOfChar_13 rfl rfl ?_
      refine aw_iload hK 3 dJ7_indexOfChar_14 rfl ?_
      obtain _ | j1 := rp0
      · exact (fw_nn_no h).elim
      replace h := fw_nn_so h
      refine aw_st hK hZ dJ7_indexOfChar_16 h (fun v2 h => ?_)
      refine aw_iload hK 2 dJ7_indexOfChar_17 rfl ?_
      refine aw_icmp_ne (tgt := 25) hK dJ7_indexOfChar_19 (by decide) h (fun h => ?_) (fun h => ?_)
      · refine aw_iinc (v := (x5 + (nI 1))) (lv' := [(5, aI (x5 + (nI 1))), (0, aR (some j1)), (3, aI x3), (4, aI x4)]) hK 3 dJ7_indexOfChar_25 rfl rfl (by decide) rfl ?_
        refine aw_goto (tgt := 7) hK dJ7_indexOfChar_28 (by decide) ?_
        exact aw_sub [1, 2, 3, 0] rfl (ih h)
      · refine aw_iload hK 3 dJ7_indexOfChar_22 rfl ?_
        exact aw_iret hK dJ7_indexOfChar_24 h hF
set_option maxHeartbeats 4000000 in
set_option maxRecDepth 100000 in
theorem w_J7_indexOfChar_0 {K : Kx} {r9 : Int32} {L9 : LH} (hK : Ok K cJ7_indexOfChar 6 RJ7 0 0) (hZ : fw_isZ K) (hF : Fin K (some (.int)) (some (aI r9)) L9) {rp0 : Option Nat} {x1 : Int32} {x2 : Int32} {x3 : Int32} {L : LH} {mc ms : Nat} (h : f_J7_indexOfChar rp0 x1 x2 x3 L = some (r9, L9, mc, ms)) : AW K L mc ms 0 [(0, aR rp0), (1, aI x1), (2, aI x2), (3, aI x3)] [] := by
  unfold f_J7_indexOfChar at h
  refine aw_iload_n hK 1 dJ7_indexOfChar_0 rfl rfl ?_
  refine aw_i2b hK dJ7_indexOfChar_1 ?_
  refine aw_istore (lv' := [(4, aI x1.toInt8.toInt32), (0, aR rp0), (1, aI x1), (2, aI x2), (3, aI x3)]) hK dJ7_indexOfChar_2 (by decide) rfl ?_
  refine aw_iload_n hK 3 dJ7_indexOfChar_4 rfl rfl ?_
  refine aw_istore (lv' := [(5, aI x2), (4, aI x1.toInt8.toInt32), (0, aR rp0), (1, aI x1), (2, aI x2), (3, aI x3)]) hK dJ7_indexOfChar_5 (by decide) rfl ?_
  exact aw_sub [2, 5, 1, 0] rfl (w_J7_indexOfChar_7 hK hZ hF h)
theorem ct_J7_indexOfChar {rp0 : Option Nat} {x1 : Int32} {x2 : Int32} {x3 : Int32} {L : LH} {r9 : Int32} {L9 : LH} {mc ms : Nat} (h : f_J7_indexOfChar rp0 x1 x2 x3 L = some (r9, L9, mc, ms)) : fw_Cx yJ7_indexOfChar (ws_ yJ7_indexOfChar cJ7_indexOfChar 6 (some (.int))) 0 0 [aR rp0, aI x1, aI x2, aI x3] L (some (aI r9)) L9 mc ms :=
  fun b1 b2 => ct_of (own := RJ7) fw_ZX_ok (by decide +kernel) rfl (Nat.le_of_ble_eq_true rfl) (fun K hZ hK hF hini => w_J7_indexOfChar_0 hK ⟨b1, b2, hZ⟩ hF h)
def f_X1_init (j0 : Nat) (x1 : Int32) (L : LH) : Rs Unit :=
  fw_na 101 x1 L fun j1 L2 =>
  fw_tpR L2 j0 0 (some j1) fun L3 =>
  some ((), L3, 0, 0)
set_option maxHeartbeats 4000000 in
set_option maxRecDepth 100000 in
theorem w_X1_init_0 {K : Kx} {r9 : Unit} {L9 : LH} (hK : Ok K cX1_init 2 RX1 1 20) (hZ : fw_isZ K) (hini : (kx_me K).name = "<init>") (hF : Fin K none none L9) {j0 : Nat} {x1 : Int32} {L : LH} {mc ms : Nat} (h : f_X1_init j0 x1 L = some (r9, L9, mc, ms)) : AW K L mc ms 0 [(0, aR (some j0)), (1, aI x1)] [] := by
  unfold f_X1_init at h
  refine aw_aload_n hK 0 dX1_init_0 rfl rfl ?_
  refine aw_objInit hK q139 q128 q129 dX1_init_1 (by decide) (Nat.le_of_ble_eq_true rfl) ?_
  refine aw_aload_n hK 0 dX1_init_4 rfl rfl ?_
  refine aw_iload_n hK 1 dX1_init_5 rfl rfl ?_
  refine aw_newa hK 1 (by decide) rfl q166 dX1_init_6 h (fun j1 L2 _ _ h => ?_)
  refine aw_tpRF hK hini 0 (by decide) rfl rfl rfl q169 (fun _ h9 => h9) rfl rfl (fun r => by cases r <;> exact ⟨rfl, rfl⟩) dX1_init_8 h (fun L3 h => ?_)
  exact aw_vret hK dX1_init_11 h hF
theorem ct_X1_init {j0 : Nat} {x1 : Int32} {L : LH} {r9 : Unit} {L9 : LH} {mc ms : Nat} (h : f_X1_init j0 x1 L = some (r9, L9, mc, ms)) : fw_Cx yX1_init (ws_ yX1_init cX1_init 2 none) 1 20 [aR (some j0), aI x1] L none L9 mc ms :=
  fun b1 b2 => ct_of (own := RX1) fw_ZX_ok (by decide +kernel) rfl (Nat.le_of_ble_eq_true rfl) (fun K hZ hK hF hini => w_X1_init_0 hK ⟨b1, b2, hZ⟩ hini hF h)
def f_X1_type (j0 : Nat) (x1 : Int32) (L : LH) : Rs Int32 :=
  fw_tI L j0 1 fun v1 =>
  fw_tR L j0 0 fun r2 =>
  fw_nn r2 fun j3 =>
  fw_al L j3 fun v5 =>
  if v1 = v5 then (
    some ((-nI 4), L, 0, 0)
  ) else (
    fw_tR L j0 0 fun r6 =>
    fw_tI L j0 1 fun v7 =>
    fw_nn r6 fun j8 =>
    fw_wr 101 L j8 v7 (vp_nar .byte x1.toInt8.toInt32) fun L9 =>
    fw_tI L9 j0 1 fun v10 =>
    fw_tpI L9 j0 1 (v10 + (nI 1)) fun L11 =>
    fw_tpI L11 j0 3 (nI 0) fun L12 =>
    fw_tI L12 j0 1 fun v13 =>
    some (v13, L12, 0, 0)
  )
set_option maxHeartbeats 4000000 in
set_option maxRecDepth 100000 in
theorem w_X1_type_0 {K : Kx} {r9 : Int32} {L9 : LH} (hK : Ok K cX1_type 2 RX1 0 0) (hZ : fw_isZ K) (hF : Fin K (some (.int)) (some (aI r9)) L9) {j0 : Nat} {x1 : Int32} {L : LH} {mc ms : Nat} (h : f_X1_type j0 x1 L = some (r9, L9, mc, ms)) : AW K L mc ms 0 [(0, aR (some j0)), (1, aI x1)] [] := by
  unfold f_X1_type at h
  refine aw_aload_n hK 0 dX1_type_0 rfl rfl ?_
  refine aw_tI hK 1 (by decide) rfl rfl rfl q170 (fun _ h9 => h9) dX1_type_1 h (fun v1 h => ?_)
  refine aw_aload_n hK 0 dX1_type_4 rfl rfl ?_
  refine aw_tR hK 0 (by decide) rfl rfl rfl q169 (fun _ h9 => h9) dX1_type_5 h (fun r2 h => ?_)
  obtain _ | j3 := r2
  · exact (fw_nn_no h).elim
  replace h := fw_nn_so h
  refine aw_alv hK dX1_type_8 h (fun v5 h => ?_)
  refine aw_icmp_ne (tgt := 15) hK dX1_type_9 (by decide) h (fun h => ?_) (fun h => ?_)
  · refine aw_aload_n hK 0 dX1_type_15 rfl rfl ?_
    refine aw_tR hK 0 (by decide) rfl rfl rfl q169 (fun _ h9 => h9) dX1_type_16 h (fun r6 h => ?_)
    refine aw_aload_n hK 0 dX1_type_19 rfl rfl ?_
    refine aw_tI hK 1 (by decide) rfl rfl rfl q170 (fun _ h9 => h9) dX1_type_20 h (fun v7 h => ?_)
    refine aw_iload_n hK 1 dX1_type_23 rfl rfl ?_
    refine aw_i2b hK dX1_type_24 ?_
    obtain _ | j8 := r6
    · exact (fw_nn_no h).elim
    replace h := fw_nn_so h
    refine aw_bast hK dX1_type_25 h (fun L9 h => ?_)
    refine aw_aload_n hK 0 dX1_type_26 rfl rfl ?_
    refine aw_dup hK dX1_type_27 rfl ?_
    refine aw_tI hK 1 (by decide) rfl rfl rfl q170 (fun _ h9 => h9) dX1_type_28 h (fun v10 h => ?_)
    refine aw_iconst (v := (nI 1)) hK dX1_type_31 rfl ?_
    refine aw_iadd hK dX1_type_32 ?_
    refine aw_tpI hK 1 (by decide) rfl rfl rfl q170 (fun _ h9 => h9) rfl rfl rfl dX1_type_33 h (fun L11 h => ?_)
    refine aw_aload_n hK 0 dX1_type_36 rfl rfl ?_
    refine aw_iconst (v := (nI 0)) hK dX1_type_37 rfl ?_
    refine aw_tpI hK 3 (by decide) rfl rfl rfl q172 (fun _ h9 => h9) rfl rfl rfl dX1_type_38 h (fun L12 h => ?_)
    refine aw_aload_n hK 0 dX1_type_41 rfl rfl ?_
    refine aw_tI hK 1 (by decide) rfl rfl rfl q170 (fun _ h9 => h9) dX1_type_42 h (fun v13 h => ?_)
    exact aw_iret hK dX1_type_45 h hF
  · refine aw_bipush (v := (-nI 4)) hK dX1_type_12 rfl ?_
    exact aw_iret hK dX1_type_14 h hF
theorem ct_X1_type {j0 : Nat} {x1 : Int32} {L : LH} {r9 : Int32} {L9 : LH} {mc ms : Nat} (h : f_X1_type j0 x1 L = some (r9, L9, mc, ms)) : fw_Cx yX1_type (ws_ yX1_type cX1_type 2 (some (.int))) 0 0 [aR (some j0), aI x1] L (some (aI r9)) L9 mc ms :=
  fun b1 b2 => ct_of (own := RX1) fw_ZX_ok (by decide +kernel) rfl (Nat.le_of_ble_eq_true rfl) (fun K hZ hK hF hini => w_X1_type_0 hK ⟨b1, b2, hZ⟩ hF h)
def f_X1_wipe (j0 : Nat) (L : LH) : Rs Int32 :=
  fw_tI L j0 1 fun v1 =>
  fw_tpI L j0 1 (nI 0) fun L2 =>
  fw_tpI L2 j0 3 (nI 0) fun L3 =>
  some (v1, L3, 0, 0)
set_option maxHeartbeats 4000000 in
set_option maxRecDepth 100000 in
theorem w_X1_wipe_0 {K : Kx} {r9 : Int32} {L9 : LH} (hK : Ok K cX1_wipe 2 RX1 0 0) (hZ : fw_isZ K) (hF : Fin K (some (.int)) (some (aI r9)) L9) {j0 : Nat} {L : LH} {mc ms : Nat} (h : f_X1_wipe j0 L = some (r9, L9, mc, ms)) : AW K L mc ms 0 [(0, aR (some j0))] [] := by
  unfold f_X1_wipe at h
  refine aw_aload_n hK 0 dX1_wipe_0 rfl rfl ?_
  refine aw_tI hK 1 (by decide) rfl rfl rfl q170 (fun _ h9 => h9) dX1_wipe_1 h (fun v1 h => ?_)
  refine aw_istore_n (lv' := [(1, aI v1), (0, aR (some j0))]) hK dX1_wipe_4 rfl (by decide) rfl ?_
  refine aw_aload_n hK 1 dX1_wipe_5 rfl rfl ?_
  refine aw_iconst (v := (nI 0)) hK dX1_wipe_6 rfl ?_
  refine aw_tpI hK 1 (by decide) rfl rfl rfl q170 (fun _ h9 => h9) rfl rfl rfl dX1_wipe_7 h (fun L2 h => ?_)
  refine aw_aload_n hK 1 dX1_wipe_10 rfl rfl ?_
  refine aw_iconst (v := (nI 0)) hK dX1_wipe_11 rfl ?_
  refine aw_tpI hK 3 (by decide) rfl rfl rfl q172 (fun _ h9 => h9) rfl rfl rfl dX1_wipe_12 h (fun L3 h => ?_)
  refine aw_iload_n hK 0 dX1_wipe_15 rfl rfl ?_
  exact aw_iret hK dX1_wipe_16 h hF
theorem ct_X1_wipe {j0 : Nat} {L : LH} {r9 : Int32} {L9 : LH} {mc ms : Nat} (h : f_X1_wipe j0 L = some (r9, L9, mc, ms)) : fw_Cx yX1_wipe (ws_ yX1_wipe cX1_wipe 2 (some (.int))) 0 0 [aR (some j0)] L (some (aI r9)) L9 mc ms :=
  fun b1 b2 => ct_of (own := RX1) fw_ZX_ok (by decide +kernel) rfl (Nat.le_of_ble_eq_true rfl) (fun K hZ hK hF hini => w_X1_wipe_0 hK ⟨b1, b2, hZ⟩ hF h)
def f_X1_undo (j0 : Nat) (L : LH) : Rs Int32 :=
  fw_tI L j0 1 fun v1 =>
  if v1 = 0 then (
    some ((-nI 3), L, 0, 0)
  ) else (
    fw_tI L j0 1 fun v2 =>
    fw_tpI L j0 1 (v2 - (nI 1)) fun L3 =>
    fw_tpI L3 j0 3 (nI 0) fun L4 =>
    fw_tI L4 j0 1 fun v5 =>
    some (v5, L4, 0, 0)
  )
set_option maxHeartbeats 4000000 in
set_option maxRecDepth 100000 in
theorem w_X1_undo_0 {K : Kx} {r9 : Int32} {L9 : LH} (hK : Ok K cX1_undo 1 RX1 0 0) (hZ : fw_isZ K) (hF : Fin K (some (.int)) (some (aI r9)) L9) {j0 : Nat} {L : LH} {mc ms : Nat} (h : f_X1_undo j0 L = some (r9, L9, mc, ms)) : AW K L mc ms 0 [(0, aR (some j0))] [] := by
  unfold f_X1_undo at h
  refine aw_aload_n hK 0 dX1_undo_0 rfl rfl ?_
  refine aw_tI hK 1 (by decide) rfl rfl rfl q170 (fun _ h9 => h9) dX1_undo_1 h (fun v1 h => ?_)
  refine aw_if_ne (tgt := 10) hK dX1_undo_4 (by decide) h (fun h => ?_) (fun h => ?_)
  · refine aw_aload_n hK 0 dX1_undo_10 rfl rfl ?_
    refine aw_dup hK dX1_undo_11 rfl ?_
    refine aw_tI hK 1 (by decide) rfl rfl rfl q170 (fun _ h9 => h9) dX1_undo_12 h (fun v2 h => ?_)
    refine aw_iconst (v := (nI 1)) hK dX1_undo_15 rfl ?_
    refine aw_isub hK dX1_undo_16 ?_
    refine aw_tpI hK 1 (by decide) rfl rfl rfl q170 (fun _ h9 => h9) rfl rfl rfl dX1_undo_17 h (fun L3 h => ?_)
    refine aw_aload_n hK 0 dX1_undo_20 rfl rfl ?_
    refine aw_iconst (v := (nI 0)) hK dX1_undo_21 rfl ?_
    refine aw_tpI hK 3 (by decide) rfl rfl rfl q172 (fun _ h9 => h9) rfl rfl rfl dX1_undo_22 h (fun L4 h => ?_)
    refine aw_aload_n hK 0 dX1_undo_25 rfl rfl ?_
    refine aw_tI hK 1 (by decide) rfl rfl rfl q170 (fun _ h9 => h9) dX1_undo_26 h (fun v5 h => ?_)
    exact aw_iret hK dX1_undo_29 h hF
  · refine aw_bipush (v := (-nI 3)) hK dX1_undo_7 rfl ?_
    exact aw_iret hK dX1_undo_9 h hF
theorem ct_X1_undo {j0 : Nat} {L : LH} {r9 : Int32} {L9 : LH} {mc ms : Nat} (h : f_X1_undo j0 L = some (r9, L9, mc, ms)) : fw_Cx yX1_undo (ws_ yX1_undo cX1_undo 1 (some (.int))) 0 0 [aR (some j0)] L (some (aI r9)) L9 mc ms :=
  fun b1 b2 => ct_of (own := RX1) fw_ZX_ok (by decide +kernel) rfl (Nat.le_of_ble_eq_true rfl) (fun K hZ hK hF hini => w_X1_undo_0 hK ⟨b1, b2, hZ⟩ hF h)
def f_X1_between (j0 : Nat) (L : LH) : Rs (Unit ⊕ XO) :=
  some (.inl (), L, 0, 0)
set_option maxHeartbeats 4000000 in
set_option maxRecDepth 100000 in
theorem w_X1_between_0 {K : Kx} {r9 : (Unit ⊕ XO)} {L9 : LH} (hK : Ok K cX1_between 1 RX1 0 0) (hZ : fw_isZ K) (hnt : ∀ x ∈ (kx_c K).exceptionTable.toList, False) (hF : FinX K none (fw_ox (fun _ => none) r9) L9) {j0 : Nat} {L : LH} {mc ms : Nat} (h : f_X1_between j0 L = some (r9, L9, mc, ms)) : AW K L mc ms 0 [(0, aR (some j0))] [] := by
  unfold f_X1_between at h
  exact aw_xvret hK dX1_between_0 h hF
theorem ct_X1_between {j0 : Nat} {L : LH} {r9 : (Unit ⊕ XO)} {L9 : LH} {mc ms : Nat} (h : f_X1_between j0 L = some (r9, L9, mc, ms)) : fw_CxX yX1_between (ws_ yX1_between cX1_between 1 none) 0 0 [aR (some j0)] L (fw_ox (fun _ => none) r9) L9 mc ms :=
  fun b1 b2 => ctx_of (own := RX1) fw_ZX_ok (by decide +kernel) rfl (Nat.le_of_ble_eq_true rfl) (fun K hZ hK hF hnt => w_X1_between_0 hK ⟨b1, b2, hZ⟩ hnt hF h)
def f_X1_length (j0 : Nat) (L : LH) : Rs Int32 :=
  fw_tI L j0 1 fun v1 =>
  some (v1, L, 0, 0)
set_option maxHeartbeats 4000000 in
set_option maxRecDepth 100000 in
theorem w_X1_length_0 {K : Kx} {r9 : Int32} {L9 : LH} (hK : Ok K cX1_length 1 RX1 0 0) (hZ : fw_isZ K) (hF : Fin K (some (.int)) (some (aI r9)) L9) {j0 : Nat} {L : LH} {mc ms : Nat} (h : f_X1_length j0 L = some (r9, L9, mc, ms)) : AW K L mc ms 0 [(0, aR (some j0))] [] := by
  unfold f_X1_length at h
  refine aw_aload_n hK 0 dX1_length_0 rfl rfl ?_
  refine aw_tI hK 1 (by decide) rfl rfl rfl q170 (fun _ h9 => h9) dX1_length_1 h (fun v1 h => ?_)
  exact aw_iret hK dX1_length_4 h hF
theorem ct_X1_length {j0 : Nat} {L : LH} {r9 : Int32} {L9 : LH} {mc ms : Nat} (h : f_X1_length j0 L = some (r9, L9, mc, ms)) : fw_Cx yX1_length (ws_ yX1_length cX1_length 1 (some (.int))) 0 0 [aR (some j0)] L (some (aI r9)) L9 mc ms :=
  fun b1 b2 => ct_of (own := RX1) fw_ZX_ok (by decide +kernel) rfl (Nat.le_of_ble_eq_true rfl) (fun K hZ hK hF hini => w_X1_length_0 hK ⟨b1, b2, hZ⟩ hF h)
def f_X10_number (j0 : Nat) (L : LH) : Rs Int32 :=
  some ((nI 0), L, 0, 0)
set_option maxHeartbeats 4000000 in
set_option maxRecDepth 100000 in
theorem w_X10_number_0 {K : Kx} {r9 : Int32} {L9 : LH} (hK : Ok K cX10_number 1 RX10 0 0) (hZ : fw_isZ K) (hF : Fin K (some (.int)) (some (aI r9)) L9) {j0 : Nat} {L : LH} {mc ms : Nat} (h : f_X10_number j0 L = some (r9, L9, mc, ms)) : AW K L mc ms 0 [(0, aR (some j0))] [] := by
  unfold f_X10_number at h
  refine aw_iconst (v := (nI 0)) hK dX10_number_0 rfl ?_
  exact aw_iret hK dX10_number_1 h hF
theorem ct_X10_number {j0 : Nat} {L : LH} {r9 : Int32} {L9 : LH} {mc ms : Nat} (h : f_X10_number j0 L = some (r9, L9, mc, ms)) : fw_Cx yX10_number (ws_ yX10_number cX10_number 1 (some (.int))) 0 0 [aR (some j0)] L (some (aI r9)) L9 mc ms :=
  fun b1 b2 => ct_of (own := RX10) fw_ZX_ok (by decide +kernel) rfl (Nat.le_of_ble_eq_true rfl) (fun K hZ hK hF hini => w_X10_number_0 hK ⟨b1, b2, hZ⟩ hF h)
def f_X10_isAnchor (j0 : Nat) (L : LH) : Rs Int32 :=
  some ((nI 0), L, 0, 0)
set_option maxHeartbeats 4000000 in
set_option maxRecDepth 100000 in
theorem w_X10_isAnchor_0 {K : Kx} {r9 : Int32} {L9 : LH} (hK : Ok K cX10_isAnchor 1 RX10 0 0) (hZ : fw_isZ K) (hF : Fin K (some (.boolean)) (some (aI r9)) L9) {j0 : Nat} {L : LH} {mc ms : Nat} (h : f_X10_isAnchor j0 L = some (r9, L9, mc, ms)) : AW K L mc ms 0 [(0, aR (some j0))] [] := by
  unfold f_X10_isAnchor at h
  refine aw_iconst (v := (nI 0)) hK dX10_isAnchor_0 rfl ?_
  exact aw_zret hK (by decide) dX10_isAnchor_1 h hF
theorem ct_X10_isAnchor {j0 : Nat} {L : LH} {r9 : Int32} {L9 : LH} {mc ms : Nat} (h : f_X10_isAnchor j0 L = some (r9, L9, mc, ms)) : fw_Cx yX10_isAnchor (ws_ yX10_isAnchor cX10_isAnchor 1 (some (.boolean))) 0 0 [aR (some j0)] L (some (aI r9)) L9 mc ms :=
  fun b1 b2 => ct_of (own := RX10) fw_ZX_ok (by decide +kernel) rfl (Nat.le_of_ble_eq_true rfl) (fun K hZ hK hF hini => w_X10_isAnchor_0 hK ⟨b1, b2, hZ⟩ hF h)
def f_X10_gains (j0 : Nat) (L : LH) : Rs Int32 :=
  some ((nI 1), L, 0, 0)
set_option maxHeartbeats 4000000 in
set_option maxRecDepth 100000 in
theorem w_X10_gains_0 {K : Kx} {r9 : Int32} {L9 : LH} (hK : Ok K cX10_gains 1 RX10 0 0) (hZ : fw_isZ K) (hF : Fin K (some (.int)) (some (aI r9)) L9) {j0 : Nat} {L : LH} {mc ms : Nat} (h : f_X10_gains j0 L = some (r9, L9, mc, ms)) : AW K L mc ms 0 [(0, aR (some j0))] [] := by
  unfold f_X10_gains at h
  refine aw_iconst (v := (nI 1)) hK dX10_gains_0 rfl ?_
  exact aw_iret hK dX10_gains_1 h hF
theorem ct_X10_gains {j0 : Nat} {L : LH} {r9 : Int32} {L9 : LH} {mc ms : Nat} (h : f_X10_gains j0 L = some (r9, L9, mc, ms)) : fw_Cx yX10_gains (ws_ yX10_gains cX10_gains 1 (some (.int))) 0 0 [aR (some j0)] L (some (aI r9)) L9 mc ms :=
  fun b1 b2 => ct_of (own := RX10) fw_ZX_ok (by decide +kernel) rfl (Nat.le_of_ble_eq_true rfl) (fun K hZ hK hF hini => w_X10_gains_0 hK ⟨b1, b2, hZ⟩ hF h)
def f_X10_heaves (j0 : Nat) (L : LH) : Rs Int32 :=
  some ((nI 1), L, 0, 0)
set_option maxHeartbeats 4000000 in
set_option maxRecDepth 100000 in
theorem w_X10_heaves_0 {K : Kx} {r9 : Int32} {L9 : LH} (hK : Ok K cX10_heaves 1 RX10 0 0) (hZ : fw_isZ K) (hF : Fin K (some (.int)) (some (aI r9)) L9) {j0 : Nat} {L : LH} {mc ms : Nat} (h : f_X10_heaves j0 L = some (r9, L9, mc, ms)) : AW K L mc ms 0 [(0, aR (some j0))] [] := by
  unfold f_X10_heaves at h
  refine aw_iconst (v := (nI 1)) hK dX10_heaves_0 rfl ?_
  exact aw_iret hK dX10_heaves_1 h hF
theorem ct_X10_heaves {j0 : Nat} {L : LH} {r9 : Int32} {L9 : LH} {mc ms : Nat} (h : f_X10_heaves j0 L = some (r9, L9, mc, ms)) : fw_Cx yX10_heaves (ws_ yX10_heaves cX10_heaves 1 (some (.int))) 0 0 [aR (some j0)] L (some (aI r9)) L9 mc ms :=
  fun b1 b2 => ct_of (own := RX10) fw_ZX_ok (by decide +kernel) rfl (Nat.le_of_ble_eq_true rfl) (fun K hZ hK hF hini => w_X10_heaves_0 hK ⟨b1, b2, hZ⟩ hF h)
def f_X10_slides (j0 : Nat) (x1 : Int32) (x2 : Int32) (L : LH) : Rs Int32 :=
  some ((fw_max (x1 - x2) (nI 0)), L, 0, 0)
set_option maxHeartbeats 4000000 in
set_option maxRecDepth 100000 in
theorem w_X10_slides_0 {K : Kx} {r9 : Int32} {L9 : LH} (hK : Ok K cX10_slides 3 RX10 1 24) (hZ : fw_isZ K) (hF : Fin K (some (.int)) (some (aI r9)) L9) {j0 : Nat} {x1 : Int32} {x2 : Int32} {L : LH} {mc ms : Nat} (h : f_X10_slides j0 x1 x2 L = some (r9, L9, mc, ms)) : AW K L mc ms 0 [(0, aR (some j0)), (1, aI x1), (2, aI x2)] [] := by
  unfold f_X10_slides at h
  refine aw_iload_n hK 1 dX10_slides_0 rfl rfl ?_
  refine aw_iload_n hK 2 dX10_slides_1 rfl rfl ?_
  refine aw_isub hK dX10_slides_2 ?_
  refine aw_iconst (v := (nI 0)) hK dX10_slides_3 rfl ?_
  refine aw_max hK q868 q495 q109 q496 dX10_slides_4 ⟨by decide, Nat.le_of_ble_eq_true rfl⟩ ?_
  exact aw_iret hK dX10_slides_7 h hF
theorem ct_X10_slides {j0 : Nat} {x1 : Int32} {x2 : Int32} {L : LH} {r9 : Int32} {L9 : LH} {mc ms : Nat} (h : f_X10_slides j0 x1 x2 L = some (r9, L9, mc, ms)) : fw_Cx yX10_slides (ws_ yX10_slides cX10_slides 3 (some (.int))) 1 24 [aR (some j0), aI x1, aI x2] L (some (aI r9)) L9 mc ms :=
  fun b1 b2 => ct_of (own := RX10) fw_ZX_ok (by decide +kernel) rfl (Nat.le_of_ble_eq_true rfl) (fun K hZ hK hF hini => w_X10_slides_0 hK ⟨b1, b2, hZ⟩ hF h)
def f_X2_init (j0 : Nat) (L : LH) : Rs Unit :=
  fw_cl (f_X1_init j0 (nI 31) L) fun _ L1 =>
  fw_nw 5 3 L1 fun j2 L3 =>
  fw_cl (f_J2_init j2 L3) fun _ L4 =>
  fw_pR 2 L4 j0 5 (some j2) fun L5 =>
  some ((), L5, 0, 0)
set_option maxHeartbeats 4000000 in
set_option maxRecDepth 100000 in
theorem w_X2_init_0 {K : Kx} {r9 : Unit} {L9 : LH} (hK : Ok K cX2_init 1 RX2 4 80) (hZ : fw_isZ K) (hini : (kx_me K).name = "<init>") (hF : Fin K none none L9) {j0 : Nat} {L : LH} {mc ms : Nat} (h : f_X2_init j0 L = some (r9, L9, mc, ms)) : AW K L mc ms 0 [(0, aR (some j0))] [] := by
  unfold f_X2_init at h
  refine aw_aload_n hK 0 dX2_init_0 rfl rfl ?_
  refine aw_bipush (v := (nI 31)) hK dX2_init_1 rfl ?_
  refine aw_callI (n := 1) (As := [aI (nI 31)]) hK (fun _ _ _ _ q => (fw_czx hZ (ct_X1_init q))) (lw_meth q138) q95 q136 q137 rfl (by decide +kernel) (by decide) rfl rfl (Nat.le_of_ble_eq_true rfl) dX2_init_3 h (fun L1 _ _ h => ?_)
  refine aw_aload_n hK 0 dX2_init_6 rfl rfl ?_
  refine aw_new hK fw_c4 q140 q141 q99 dX2_init_7 h (fun j2 L3 _ _ h => ?_)
  refine aw_dup hK dX2_init_10 rfl ?_
  refine aw_callI (n := 0) (As := []) hK (fun _ _ _ _ q => (fw_czx hZ (ct_J2_init q))) (lw_meth q144) q99 q142 q143 rfl (by decide +kernel) (by decide) rfl rfl (Nat.le_of_ble_eq_true rfl) dX2_init_11 h (fun L4 _ _ h => ?_)
  refine aw_pRF hK hini fw_c1 5 (by decide) rfl q167 (fun _ h9 => h9) rfl rfl (fun r => by cases r <;> exact ⟨rfl, rfl⟩) dX2_init_14 h (fun L5 h => ?_)
  exact aw_vret hK dX2_init_17 h hF
theorem ct_X2_init {j0 : Nat} {L : LH} {r9 : Unit} {L9 : LH} {mc ms : Nat} (h : f_X2_init j0 L = some (r9, L9, mc, ms)) : fw_Cx yX2_init (ws_ yX2_init cX2_init 1 none) 4 80 [aR (some j0)] L none L9 mc ms :=
  fun b1 b2 => ct_of (own := RX2) fw_ZX_ok (by decide +kernel) rfl (Nat.le_of_ble_eq_true rfl) (fun K hZ hK hF hini => w_X2_init_0 hK ⟨b1, b2, hZ⟩ hini hF h)
def f_X2_clear (j0 : Nat) (L : LH) : Rs Unit :=
  fw_gR 2 L j0 5 fun r1 =>
  fw_nn r1 fun j3 =>
  fw_is 5 L j3 <|
  fw_cl (f_J2_clear j3 L) fun _ L2 =>
  some ((), L2, 0, 0)
set_option maxHeartbeats 4000000 in
set_option maxRecDepth 100000 in
theorem w_X2_clear_0 {K : Kx} {r9 : Unit} {L9 : LH} (hK : Ok K cX2_clear 1 RX2 1 23) (hZ : fw_isZ K) (hF : Fin K none none L9) {j0 : Nat} {L : LH} {mc ms : Nat} (h : f_X2_clear j0 L = some (r9, L9, mc, ms)) : AW K L mc ms 0 [(0, aR (some j0))] [] := by
  unfold f_X2_clear at h
  refine aw_aload_n hK 0 dX2_clear_0 rfl rfl ?_
  refine aw_gR hK fw_c1 5 (by decide) rfl q167 (fun _ h9 => h9) dX2_clear_1 h (fun r1 h => ?_)
  obtain _ | j3 := r1
  · exact (fw_nn_no h).elim
  replace h := fw_nn_so h
  obtain ⟨hj, h⟩ := fw_is_h h
  refine aw_callV_v (n := 0) hK fw_c4 hj (fun _ _ _ _ q => fw_czx hZ (ct_J2_clear q)) (lw_V q367 q368 q369 q99 q370) (by decide +kernel) (by decide) rfl rfl (Nat.le_of_ble_eq_true rfl) dX2_clear_4 h (fun _ L2 _ _ h => ?_)
  exact aw_vret hK dX2_clear_7 h hF
theorem ct_X2_clear {j0 : Nat} {L : LH} {r9 : Unit} {L9 : LH} {mc ms : Nat} (h : f_X2_clear j0 L = some (r9, L9, mc, ms)) : fw_Cx yX2_clear (ws_ yX2_clear cX2_clear 1 none) 1 23 [aR (some j0)] L none L9 mc ms :=
  fun b1 b2 => ct_of (own := RX2) fw_ZX_ok (by decide +kernel) rfl (Nat.le_of_ble_eq_true rfl) (fun K hZ hK hF hini => w_X2_clear_0 hK ⟨b1, b2, hZ⟩ hF h)
def f_X2_isFull (j0 : Nat) (L : LH) : Rs Int32 :=
  fw_gR 2 L j0 5 fun r1 =>
  fw_nn r1 fun j4 =>
  fw_is 5 L j4 <|
  fw_cl (f_J2_size j4 L) fun v3 L2 =>
  if v3 = (nI 8) then (
    some ((nI 1), L2, 0, 0)
  ) else (
    some ((nI 0), L2, 0, 0)
  )
set_option maxHeartbeats 4000000 in
set_option maxRecDepth 100000 in
theorem w_X2_isFull_0 {K : Kx} {r9 : Int32} {L9 : LH} (hK : Ok K cX2_isFull 1 RX2 1 20) (hZ : fw_isZ K) (hF : Fin K (some (.boolean)) (some (aI r9)) L9) {j0 : Nat} {L : LH} {mc ms : Nat} (h : f_X2_isFull j0 L = some (r9, L9, mc, ms)) : AW K L mc ms 0 [(0, aR (some j0))] [] := by
  unfold f_X2_isFull at h
  refine aw_aload_n hK 0 dX2_isFull_0 rfl rfl ?_
  refine aw_gR hK fw_c1 5 (by decide) rfl q167 (fun _ h9 => h9) dX2_isFull_1 h (fun r1 h => ?_)
  obtain _ | j4 := r1
  · exact (fw_nn_no h).elim
  replace h := fw_nn_so h
  obtain ⟨hj, h⟩ := fw_is_h h
  refine aw_callV_i (n := 0) hK fw_c4 hj (fun _ _ _ _ q => fw_czx hZ (ct_J2_size q)) (lw_V q384 q385 q386 q99 q387) (by decide +kernel) (by decide) rfl rfl (Nat.le_of_ble_eq_true rfl) dX2_isFull_4 h (fun v3 L2 _ _ h => ?_)
  refine aw_bipush (v := (nI 8)) hK dX2_isFull_7 rfl ?_
  refine aw_icmp_ne (tgt := 16) hK dX2_isFull_9 (by decide) h (fun h => ?_) (fun h => ?_)
  · refine aw_iconst (v := (nI 0)) hK dX2_isFull_16 rfl ?_
    exact aw_zret hK (by decide) dX2_isFull_17 h hF
  · refine aw_iconst (v := (nI 1)) hK dX2_isFull_12 rfl ?_
    refine aw_goto (tgt := 17) hK dX2_isFull_13 (by decide) ?_
    exact aw_zret hK (by decide) dX2_isFull_17 h hF
theorem ct_X2_isFull {j0 : Nat} {L : LH} {r9 : Int32} {L9 : LH} {mc ms : Nat} (h : f_X2_isFull j0 L = some (r9, L9, mc, ms)) : fw_Cx yX2_isFull (ws_ yX2_isFull cX2_isFull 1 (some (.boolean))) 1 20 [aR (some j0)] L (some (aI r9)) L9 mc ms :=
  fun b1 b2 => ct_of (own := RX2) fw_ZX_ok (by decide +kernel) rfl (Nat.le_of_ble_eq_true rfl) (fun K hZ hK hF hini => w_X2_isFull_0 hK ⟨b1, b2, hZ⟩ hF h)
def f_X3_init (j0 : Nat) (L : LH) : Rs Unit :=
  fw_cl (f_X1_init j0 (nI 24) L) fun _ L1 =>
  fw_na 100 (nI 24) L1 fun j2 L3 =>
  fw_pR 3 L3 j0 5 (some j2) fun L4 =>
  some ((), L4, 0, 0)
set_option maxHeartbeats 4000000 in
set_option maxRecDepth 100000 in
theorem w_X3_init_0 {K : Kx} {r9 : Unit} {L9 : LH} (hK : Ok K cX3_init 1 RX3 2 41) (hZ : fw_isZ K) (hini : (kx_me K).name = "<init>") (hF : Fin K none none L9) {j0 : Nat} {L : LH} {mc ms : Nat} (h : f_X3_init j0 L = some (r9, L9, mc, ms)) : AW K L mc ms 0 [(0, aR (some j0))] [] := by
  unfold f_X3_init at h
  refine aw_aload_n hK 0 dX3_init_0 rfl rfl ?_
  refine aw_bipush (v := (nI 24)) hK dX3_init_1 rfl ?_
  refine aw_callI (n := 1) (As := [aI (nI 24)]) hK (fun _ _ _ _ q => (fw_czx hZ (ct_X1_init q))) (lw_meth q138) q95 q193 q137 rfl (by decide +kernel) (by decide) rfl rfl (Nat.le_of_ble_eq_true rfl) dX3_init_3 h (fun L1 _ _ h => ?_)
  refine aw_aload_n hK 0 dX3_init_6 rfl rfl ?_
  refine aw_bipush (v := (nI 24)) hK dX3_init_7 rfl ?_
  refine aw_newa hK 0 (by decide) rfl q207 dX3_init_9 h (fun j2 L3 _ _ h => ?_)
  refine aw_pRF hK hini fw_c2 5 (by decide) rfl q194 (fun _ h9 => h9) rfl rfl (fun r => by cases r <;> exact ⟨rfl, rfl⟩) dX3_init_11 h (fun L4 h => ?_)
  exact aw_vret hK dX3_init_14 h hF
theorem ct_X3_init {j0 : Nat} {L : LH} {r9 : Unit} {L9 : LH} {mc ms : Nat} (h : f_X3_init j0 L = some (r9, L9, mc, ms)) : fw_Cx yX3_init (ws_ yX3_init cX3_init 1 none) 2 41 [aR (some j0)] L none L9 mc ms :=
  fun b1 b2 => ct_of (own := RX3) fw_ZX_ok (by decide +kernel) rfl (Nat.le_of_ble_eq_true rfl) (fun K hZ hK hF hini => w_X3_init_0 hK ⟨b1, b2, hZ⟩ hini hF h)
def f_X3_clear (j0 : Nat) (L : LH) : Rs Unit :=
  fw_gR 3 L j0 5 fun r1 =>
  fw_cl (f_J3_fill r1 (nI 1) L) fun _ L2 =>
  fw_pI 3 L2 j0 6 (nI 0) fun L3 =>
  some ((), L3, 0, 0)
set_option maxHeartbeats 4000000 in
set_option maxRecDepth 100000 in
theorem w_X3_clear_0 {K : Kx} {r9 : Unit} {L9 : LH} (hK : Ok K cX3_clear 1 RX3 1 23) (hZ : fw_isZ K) (hF : Fin K none none L9) {j0 : Nat} {L : LH} {mc ms : Nat} (h : f_X3_clear j0 L = some (r9, L9, mc, ms)) : AW K L mc ms 0 [(0, aR (some j0))] [] := by
  unfold f_X3_clear at h
  refine aw_aload_n hK 0 dX3_clear_0 rfl rfl ?_
  refine aw_gR hK fw_c2 5 (by decide) rfl q194 (fun _ h9 => h9) dX3_clear_1 h (fun r1 h => ?_)
  refine aw_iconst (v := (nI 1)) hK dX3_clear_4 rfl ?_
  refine aw_callS_v (n := 2) hK (fun _ _ _ _ q => fw_czx hZ (ct_J3_fill q)) (lw_S q361 q362 q103 q363) (by decide +kernel) (by decide) rfl rfl (Nat.le_of_ble_eq_true rfl) dX3_clear_5 h (fun _ L2 _ _ h => ?_)
  refine aw_aload_n hK 0 dX3_clear_8 rfl rfl ?_
  refine aw_iconst (v := (nI 0)) hK dX3_clear_9 rfl ?_
  refine aw_pI hK fw_c2 6 (by decide) rfl q196 (fun _ h9 => h9) rfl rfl rfl dX3_clear_10 h (fun L3 h => ?_)
  exact aw_vret hK dX3_clear_13 h hF
theorem ct_X3_clear {j0 : Nat} {L : LH} {r9 : Unit} {L9 : LH} {mc ms : Nat} (h : f_X3_clear j0 L = some (r9, L9, mc, ms)) : fw_Cx yX3_clear (ws_ yX3_clear cX3_clear 1 none) 1 23 [aR (some j0)] L none L9 mc ms :=
  fun b1 b2 => ct_of (own := RX3) fw_ZX_ok (by decide +kernel) rfl (Nat.le_of_ble_eq_true rfl) (fun K hZ hK hF hini => w_X3_clear_0 hK ⟨b1, b2, hZ⟩ hF h)
def f_X3_isFull (j0 : Nat) (L : LH) : Rs Int32 :=
  fw_gI 3 L j0 6 fun v1 =>
  if v1 = (nI 24) then (
    some ((nI 1), L, 0, 0)
  ) else (
    some ((nI 0), L, 0, 0)
  )
set_option maxHeartbeats 4000000 in
set_option maxRecDepth 100000 in
theorem w_X3_isFull_0 {K : Kx} {r9 : Int32} {L9 : LH} (hK : Ok K cX3_isFull 1 RX3 0 0) (hZ : fw_isZ K) (hF : Fin K (some (.boolean)) (some (aI r9)) L9) {j0 : Nat} {L : LH} {mc ms : Nat} (h : f_X3_isFull j0 L = some (r9, L9, mc, ms)) : AW K L mc ms 0 [(0, aR (some j0))] [] := by
  unfold f_X3_isFull at h
  refine aw_aload_n hK 0 dX3_isFull_0 rfl rfl ?_
  refine aw_gI hK fw_c2 6 (by decide) rfl q196 (fun _ h9 => h9) dX3_isFull_1 h (fun v1 h => ?_)
  refine aw_bipush (v := (nI 24)) hK dX3_isFull_4 rfl ?_
  refine aw_icmp_ne (tgt := 13) hK dX3_isFull_6 (by decide) h (fun h => ?_) (fun h => ?_)
  · refine aw_iconst (v := (nI 0)) hK dX3_isFull_13 rfl ?_
    exact aw_zret hK (by decide) dX3_isFull_14 h hF
  · refine aw_iconst (v := (nI 1)) hK dX3_isFull_9 rfl ?_
    refine aw_goto (tgt := 14) hK dX3_isFull_10 (by decide) ?_
    exact aw_zret hK (by decide) dX3_isFull_14 h hF
theorem ct_X3_isFull {j0 : Nat} {L : LH} {r9 : Int32} {L9 : LH} {mc ms : Nat} (h : f_X3_isFull j0 L = some (r9, L9, mc, ms)) : fw_Cx yX3_isFull (ws_ yX3_isFull cX3_isFull 1 (some (.boolean))) 0 0 [aR (some j0)] L (some (aI r9)) L9 mc ms :=
  fun b1 b2 => ct_of (own := RX3) fw_ZX_ok (by decide +kernel) rfl (Nat.le_of_ble_eq_true rfl) (fun K hZ hK hF hini => w_X3_isFull_0 hK ⟨b1, b2, hZ⟩ hF h)
def f_X4_init (j0 : Nat) (L : LH) : Rs Unit :=
  some ((), L, 0, 0)
set_option maxHeartbeats 4000000 in
set_option maxRecDepth 100000 in
theorem w_X4_init_0 {K : Kx} {r9 : Unit} {L9 : LH} (hK : Ok K cX4_init 1 RX4 1 20) (hZ : fw_isZ K) (hini : (kx_me K).name = "<init>") (hF : Fin K none none L9) {j0 : Nat} {L : LH} {mc ms : Nat} (h : f_X4_init j0 L = some (r9, L9, mc, ms)) : AW K L mc ms 0 [(0, aR (some j0))] [] := by
  unfold f_X4_init at h
  refine aw_aload_n hK 0 dX4_init_0 rfl rfl ?_
  refine aw_objInit hK q220 q128 q129 dX4_init_1 (by decide) (Nat.le_of_ble_eq_true rfl) ?_
  exact aw_vret hK dX4_init_4 h hF
theorem ct_X4_init {j0 : Nat} {L : LH} {r9 : Unit} {L9 : LH} {mc ms : Nat} (h : f_X4_init j0 L = some (r9, L9, mc, ms)) : fw_Cx yX4_init (ws_ yX4_init cX4_init 1 none) 1 20 [aR (some j0)] L none L9 mc ms :=
  fun b1 b2 => ct_of (own := RX4) fw_ZX_ok (by decide +kernel) rfl (Nat.le_of_ble_eq_true rfl) (fun K hZ hK hF hini => w_X4_init_0 hK ⟨b1, b2, hZ⟩ hini hF h)
def f_X4_type (j0 : Nat) (L : LH) : Rs Int32 :=
  fw_gR 4 L j0 0 fun r1 =>
  fw_io 1 L r1 fun v2 =>
  if v2 = 0 then (
    fw_gR 4 L j0 0 fun r3 =>
    fw_io 2 L r3 fun v4 =>
    if v4 = 0 then (
      some ((nI 2), L, 0, 0)
    ) else (
      some ((nI 1), L, 0, 0)
    )
  ) else (
    some ((nI 0), L, 0, 0)
  )
set_option maxHeartbeats 4000000 in
set_option maxRecDepth 100000 in
theorem w_X4_type_0 {K : Kx} {r9 : Int32} {L9 : LH} (hK : Ok K cX4_type 1 RX4 0 0) (hZ : fw_isZ K) (hF : Fin K (some (.int)) (some (aI r9)) L9) {j0 : Nat} {L : LH} {mc ms : Nat} (h : f_X4_type j0 L = some (r9, L9, mc, ms)) : AW K L mc ms 0 [(0, aR (some j0))] [] := by
  unfold f_X4_type at h
  refine aw_aload_n hK 0 dX4_type_0 rfl rfl ?_
  refine aw_gR hK fw_c3 0 (by decide) rfl q221 (fun _ h9 => h9) dX4_type_1 h (fun r1 h => ?_)
  refine aw_inst hK hZ 1 (by decide) (by decide) (by decide) q768 dX4_type_4 h (fun v2 h => ?_)
  refine aw_if_eq (tgt := 14) hK dX4_type_7 (by decide) h (fun h => ?_) (fun h => ?_)
  · refine aw_aload_n hK 0 dX4_type_14 rfl rfl ?_
    refine aw_gR hK fw_c3 0 (by decide) rfl q221 (fun _ h9 => h9) dX4_type_15 h (fun r3 h => ?_)
    refine aw_inst hK hZ 2 (by decide) (by decide) (by decide) q769 dX4_type_18 h (fun v4 h => ?_)
    refine aw_if_eq (tgt := 28) hK dX4_type_21 (by decide) h (fun h => ?_) (fun h => ?_)
    · refine aw_iconst (v := (nI 2)) hK dX4_type_28 rfl ?_
      exact aw_iret hK dX4_type_29 h hF
    · refine aw_iconst (v := (nI 1)) hK dX4_type_24 rfl ?_
      refine aw_goto (tgt := 29) hK dX4_type_25 (by decide) ?_
      exact aw_iret hK dX4_type_29 h hF
  · refine aw_iconst (v := (nI 0)) hK dX4_type_10 rfl ?_
    refine aw_goto (tgt := 29) hK dX4_type_11 (by decide) ?_
    exact aw_iret hK dX4_type_29 h hF
theorem ct_X4_type {j0 : Nat} {L : LH} {r9 : Int32} {L9 : LH} {mc ms : Nat} (h : f_X4_type j0 L = some (r9, L9, mc, ms)) : fw_Cx yX4_type (ws_ yX4_type cX4_type 1 (some (.int))) 0 0 [aR (some j0)] L (some (aI r9)) L9 mc ms :=
  fun b1 b2 => ct_of (own := RX4) fw_ZX_ok (by decide +kernel) rfl (Nat.le_of_ble_eq_true rfl) (fun K hZ hK hF hini => w_X4_type_0 hK ⟨b1, b2, hZ⟩ hF h)
def f_X4_item (j0 : Nat) (x1 : Int32) (x2 : Int32) (L : LH) : Rs (Int32 ⊕ XO) :=
  if x1 = (nI 0) then (
    fw_gR 4 L j0 0 fun r1 =>
    fw_ckX 1 L r1 (fun x L9 => some (.inr x, L9, 0, 0)) <|
    fw_nn r1 fun j2 =>
    fw_rdX 101 L j2 x2 (fun x L9 => some (.inr x, L9, 0, 0)) fun v3 =>
    some (.inl v3, L, 0, 0)
  ) else (
    if x1 = (nI 1) then (
      fw_gR 4 L j0 0 fun r4 =>
      fw_ckX 2 L r4 (fun x L9 => some (.inr x, L9, 0, 0)) <|
      fw_nn r4 fun j5 =>
      fw_rdX 102 L j5 x2 (fun x L9 => some (.inr x, L9, 0, 0)) fun v6 =>
      some (.inl v6, L, 0, 0)
    ) else (
      fw_gR 4 L j0 0 fun r7 =>
      fw_ckX 0 L r7 (fun x L9 => some (.inr x, L9, 0, 0)) <|
      fw_nn r7 fun j8 =>
      fw_rdX 100 L j8 x2 (fun x L9 => some (.inr x, L9, 0, 0)) fun v9 =>
      some (.inl v9, L, 0, 0)
    )
  )
set_option maxHeartbeats 4000000 in
set_option maxRecDepth 100000 in
theorem w_X4_item_0 {K : Kx} {r9 : (Int32 ⊕ XO)} {L9 : LH} (hK : Ok K cX4_item 3 RX4 8 10248) (hZ : fw_isZ K) (hnt : ∀ x ∈ (kx_c K).exceptionTable.toList, False) (hF : FinX K (some (.int)) (fw_ox (fun r => some (aI r)) r9) L9) {j0 : Nat} {x1 : Int32} {x2 : Int32} {L : LH} {mc ms : Nat} (h : f_X4_item j0 x1 x2 L = some (r9, L9, mc, ms)) : AW K L mc ms 0 [(0, aR (some j0)), (1, aI x1), (2, aI x2)] [] := by
  unfold f_X4_item at h
  refine aw_iload_n hK 1 dX4_item_0 rfl rfl ?_
  by_cases c0 : x1 = (nI 0)
  · rw [if_pos c0] at h
    refine aw_lookIn (tgt := 28) hK dX4_item_1 c0 rfl rfl (by decide) ?_
    refine aw_aload_n hK 0 dX4_item_28 rfl rfl ?_
    refine aw_gR hK fw_c3 0 (by decide) rfl q221 (fun _ h9 => h9) dX4_item_29 h (fun r1 h => ?_)
    refine aw_ckaX hK hZ 1 (by decide) (by decide) q768 (by decide) (Nat.le_of_ble_eq_true rfl) dX4_item_32 h (fun _ _ h => ax_out hK hnt h hF) (fun h => ?_)
    refine aw_iload_n hK 2 dX4_item_35 rfl rfl ?_
    obtain _ | j2 := r1
    · exact (fw_nn_no h).elim
    replace h := fw_nn_so h
    refine aw_baldX hK hZ (by decide) (Nat.le_of_ble_eq_true rfl) dX4_item_36 h (fun _ _ h => ax_out hK hnt h hF) (fun v3 h => ?_)
    exact aw_xiret hK dX4_item_37 h hF
  · rw [if_neg c0] at h
    by_cases c1 : x1 = (nI 1)
    · rw [if_pos c1] at h
      refine aw_lookIn (tgt := 38) hK dX4_item_1 c1 rfl rfl (by decide) ?_
      refine aw_aload_n hK 0 dX4_item_38 rfl rfl ?_
      refine aw_gR hK fw_c3 0 (by decide) rfl q221 (fun _ h9 => h9) dX4_item_39 h (fun r4 h => ?_)
      refine aw_ckaX hK hZ 2 (by decide) (by decide) q769 (by decide) (Nat.le_of_ble_eq_true rfl) dX4_item_42 h (fun _ _ h => ax_out hK hnt h hF) (fun h => ?_)
      refine aw_iload_n hK 2 dX4_item_45 rfl rfl ?_
      obtain _ | j5 := r4
      · exact (fw_nn_no h).elim
      replace h := fw_nn_so h
      refine aw_saldX hK hZ (by decide) (Nat.le_of_ble_eq_true rfl) dX4_item_46 h (fun _ _ h => ax_out hK hnt h hF) (fun v6 h => ?_)
      exact aw_xiret hK dX4_item_47 h hF
    · rw [if_neg c1] at h
      refine aw_lookOut (tgt := 48) (off := 47) hK dX4_item_1 rfl ?_ (by decide) ?_
      · exact (lv_osw c0 rfl).trans ((lv_osw c1 rfl).trans (rfl))
      · refine aw_aload_n hK 0 dX4_item_48 rfl rfl ?_
        refine aw_gR hK fw_c3 0 (by decide) rfl q221 (fun _ h9 => h9) dX4_item_49 h (fun r7 h => ?_)
        refine aw_ckaX hK hZ 0 (by decide) (by decide) q770 (by decide) (Nat.le_of_ble_eq_true rfl) dX4_item_52 h (fun _ _ h => ax_out hK hnt h hF) (fun h => ?_)
        refine aw_iload_n hK 2 dX4_item_55 rfl rfl ?_
        obtain _ | j8 := r7
        · exact (fw_nn_no h).elim
        replace h := fw_nn_so h
        refine aw_ialdX hK hZ (by decide) (Nat.le_of_ble_eq_true rfl) dX4_item_56 h (fun _ _ h => ax_out hK hnt h hF) (fun v9 h => ?_)
        exact aw_xiret hK dX4_item_57 h hF
theorem ct_X4_item {j0 : Nat} {x1 : Int32} {x2 : Int32} {L : LH} {r9 : (Int32 ⊕ XO)} {L9 : LH} {mc ms : Nat} (h : f_X4_item j0 x1 x2 L = some (r9, L9, mc, ms)) : fw_CxX yX4_item (ws_ yX4_item cX4_item 3 (some (.int))) 8 10248 [aR (some j0), aI x1, aI x2] L (fw_ox (fun r => some (aI r)) r9) L9 mc ms :=
  fun b1 b2 => ctx_of (own := RX4) fw_ZX_ok (by decide +kernel) rfl (Nat.le_of_ble_eq_true rfl) (fun K hZ hK hF hnt => w_X4_item_0 hK ⟨b1, b2, hZ⟩ hnt hF h)
def f_X4_lay (j0 : Nat) (x1 : Int32) (x2 : Int32) (x3 : Int32) (L : LH) : Rs (Unit ⊕ XO) :=
  if x1 = (nI 0) then (
    fw_gR 4 L j0 0 fun r1 =>
    fw_ckX 1 L r1 (fun x L9 => some (.inr x, L9, 0, 0)) <|
    fw_nn r1 fun j2 =>
    fw_wrX 101 L j2 x2 (vp_nar .byte x3.toInt8.toInt32) (fun x L9 => some (.inr x, L9, 0, 0)) fun L3 =>
    some (.inl (), L3, 0, 0)
  ) else (
    if x1 = (nI 1) then (
      fw_gR 4 L j0 0 fun r4 =>
      fw_ckX 2 L r4 (fun x L9 => some (.inr x, L9, 0, 0)) <|
      fw_nn r4 fun j5 =>
      fw_wrX 102 L j5 x2 (vp_nar .short x3.toInt16.toInt32) (fun x L9 => some (.inr x, L9, 0, 0)) fun L6 =>
      some (.inl (), L6, 0, 0)
    ) else (
      fw_gR 4 L j0 0 fun r7 =>
      fw_ckX 0 L r7 (fun x L9 => some (.inr x, L9, 0, 0)) <|
      fw_nn r7 fun j8 =>
      fw_wrX 100 L j8 x2 x3 (fun x L9 => some (.inr x, L9, 0, 0)) fun L9 =>
      some (.inl (), L9, 0, 0)
    )
  )
set_option maxHeartbeats 4000000 in
set_option maxRecDepth 100000 in
theorem w_X4_lay_0 {K : Kx} {r9 : (Unit ⊕ XO)} {L9 : LH} (hK : Ok K cX4_lay 4 RX4 8 10248) (hZ : fw_isZ K) (hnt : ∀ x ∈ (kx_c K).exceptionTable.toList, False) (hF : FinX K none (fw_ox (fun _ => none) r9) L9) {j0 : Nat} {x1 : Int32} {x2 : Int32} {x3 : Int32} {L : LH} {mc ms : Nat} (h : f_X4_lay j0 x1 x2 x3 L = some (r9, L9, mc, ms)) : AW K L mc ms 0 [(0, aR (some j0)), (1, aI x1), (2, aI x2), (3, aI x3)] [] := by
  unfold f_X4_lay at h
  refine aw_iload_n hK 1 dX4_lay_0 rfl rfl ?_
  by_cases c0 : x1 = (nI 0)
  · rw [if_pos c0] at h
    refine aw_lookIn (tgt := 28) hK dX4_lay_1 c0 rfl rfl (by decide) ?_
    refine aw_aload_n hK 0 dX4_lay_28 rfl rfl ?_
    refine aw_gR hK fw_c3 0 (by decide) rfl q221 (fun _ h9 => h9) dX4_lay_29 h (fun r1 h => ?_)
    refine aw_ckaX hK hZ 1 (by decide) (by decide) q768 (by decide) (Nat.le_of_ble_eq_true rfl) dX4_lay_32 h (fun _ _ h => ax_out hK hnt h hF) (fun h => ?_)
    refine aw_iload_n hK 2 dX4_lay_35 rfl rfl ?_
    refine aw_iload_n hK 3 dX4_lay_36 rfl rfl ?_
    refine aw_i2b hK dX4_lay_37 ?_
    obtain _ | j2 := r1
    · exact (fw_nn_no h).elim
    replace h := fw_nn_so h
    refine aw_bastX hK hZ (by decide) (Nat.le_of_ble_eq_true rfl) dX4_lay_38 h (fun _ _ h => ax_out hK hnt h hF) (fun L3 h => ?_)
    refine aw_goto (tgt := 66) hK dX4_lay_39 (by decide) ?_
    exact aw_xvret hK dX4_lay_66 h hF
  · rw [if_neg c0] at h
    by_cases c1 : x1 = (nI 1)
    · rw [if_pos c1] at h
      refine aw_lookIn (tgt := 42) hK dX4_lay_1 c1 rfl rfl (by decide) ?_
      refine aw_aload_n hK 0 dX4_lay_42 rfl rfl ?_
      refine aw_gR hK fw_c3 0 (by decide) rfl q221 (fun _ h9 => h9) dX4_lay_43 h (fun r4 h => ?_)
      refine aw_ckaX hK hZ 2 (by decide) (by decide) q769 (by decide) (Nat.le_of_ble_eq_true rfl) dX4_lay_46 h (fun _ _ h => ax_out hK hnt h hF) (fun h => ?_)
      refine aw_iload_n hK 2 dX4_lay_49 rfl rfl ?_
      refine aw_iload_n hK 3 dX4_lay_50 rfl rfl ?_
      refine aw_i2s hK dX4_lay_51 ?_
      obtain _ | j5 := r4
      · exact (fw_nn_no h).elim
      replace h := fw_nn_so h
      refine aw_sastX hK hZ (by decide) (Nat.le_of_ble_eq_true rfl) dX4_lay_52 h (fun _ _ h => ax_out hK hnt h hF) (fun L6 h => ?_)
      refine aw_goto (tgt := 66) hK dX4_lay_53 (by decide) ?_
      exact aw_xvret hK dX4_lay_66 h hF
    · rw [if_neg c1] at h
      refine aw_lookOut (tgt := 56) (off := 55) hK dX4_lay_1 rfl ?_ (by decide) ?_
      · exact (lv_osw c0 rfl).trans ((lv_osw c1 rfl).trans (rfl))
      · refine aw_aload_n hK 0 dX4_lay_56 rfl rfl ?_
        refine aw_gR hK fw_c3 0 (by decide) rfl q221 (fun _ h9 => h9) dX4_lay_57 h (fun r7 h => ?_)
        refine aw_ckaX hK hZ 0 (by decide) (by decide) q770 (by decide) (Nat.le_of_ble_eq_true rfl) dX4_lay_60 h (fun _ _ h => ax_out hK hnt h hF) (fun h => ?_)
        refine aw_iload_n hK 2 dX4_lay_63 rfl rfl ?_
        refine aw_iload_n hK 3 dX4_lay_64 rfl rfl ?_
        obtain _ | j8 := r7
        · exact (fw_nn_no h).elim
        replace h := fw_nn_so h
        refine aw_iastX hK hZ (by decide) (Nat.le_of_ble_eq_true rfl) dX4_lay_65 h (fun _ _ h => ax_out hK hnt h hF) (fun L9 h => ?_)
        exact aw_xvret hK dX4_lay_66 h hF
theorem ct_X4_lay {j0 : Nat} {x1 : Int32} {x2 : Int32} {x3 : Int32} {L : LH} {r9 : (Unit ⊕ XO)} {L9 : LH} {mc ms : Nat} (h : f_X4_lay j0 x1 x2 x3 L = some (r9, L9, mc, ms)) : fw_CxX yX4_lay (ws_ yX4_lay cX4_lay 4 none) 8 10248 [aR (some j0), aI x1, aI x2, aI x3] L (fw_ox (fun _ => none) r9) L9 mc ms :=
  fun b1 b2 => ctx_of (own := RX4) fw_ZX_ok (by decide +kernel) rfl (Nat.le_of_ble_eq_true rfl) (fun K hZ hK hF hnt => w_X4_lay_0 hK ⟨b1, b2, hZ⟩ hnt hF h)
def f_X6_init (b1 b2 : Bool) (j0 : Nat) (x1 : Int32) (L : LH) : Rs Unit :=
  fw_cl (f_J5_init b1 b2 j0 none none (nI 0) (nI 0) L) fun _ L1 =>
  fw_pI 7 L1 j0 6 x1 fun L2 =>
  some ((), L2, 0, 0)
set_option maxHeartbeats 4000000 in
set_option maxRecDepth 100000 in
theorem w_X6_init_0 {b1 b2 : Bool} {K : Kx} {r9 : Unit} {L9 : LH} (hK : Ok K cX6_init 2 RX6 3 68) (hZ : kx_Z K = fw_ZX b1 b2) (hini : (kx_me K).name = "<init>") (hF : Fin K none none L9) {j0 : Nat} {x1 : Int32} {L : LH} {mc ms : Nat} (h : f_X6_init b1 b2 j0 x1 L = some (r9, L9, mc, ms)) : AW K L mc ms 0 [(0, aR (some j0)), (1, aI x1)] [] := by
  unfold f_X6_init at h
  refine aw_aload_n hK 0 dX6_init_0 rfl rfl ?_
  refine aw_null hK dX6_init_1 ?_
  refine aw_null hK dX6_init_2 ?_
  refine aw_iconst (v := (nI 0)) hK dX6_init_3 rfl ?_
  refine aw_iconst (v := (nI 0)) hK dX6_init_4 rfl ?_
  refine aw_callI (n := 4) (As := [aR none, aR none, aI (nI 0), aI (nI 0)]) hK (fun _ _ _ _ q => (by rw [hZ]; exact ct_J5_init q)) (lw_meth q432) q105 q430 q431 rfl (by decide +kernel) (by decide) rfl rfl (Nat.le_of_ble_eq_true rfl) dX6_init_5 h (fun L1 _ _ h => ?_)
  refine aw_aload_n hK 0 dX6_init_8 rfl rfl ?_
  refine aw_iload_n hK 1 dX6_init_9 rfl rfl ?_
  refine aw_pIF hK hini fw_c6 6 (by decide) rfl q436 (fun _ h9 => h9) rfl rfl rfl rfl dX6_init_10 h (fun L2 h => ?_)
  exact aw_vret hK dX6_init_13 h hF
theorem ct_X6_init {b1 b2 : Bool} {j0 : Nat} {x1 : Int32} {L : LH} {r9 : Unit} {L9 : LH} {mc ms : Nat} (h : f_X6_init b1 b2 j0 x1 L = some (r9, L9, mc, ms)) : Ct (fw_ZX b1 b2) yX6_init (ws_ yX6_init cX6_init 2 none) 3 68 [aR (some j0), aI x1] L none L9 mc ms :=
  ct_of (own := RX6) fw_ZX_ok (by decide +kernel) rfl (Nat.le_of_ble_eq_true rfl) (fun K hZ hK hF hini => w_X6_init_0 hK hZ hini hF h)
/-- the two statics leave no trace -/
def f_X6_torn (j0 : Nat) (x1 : Int32) (L : LH) : Rs Unit := f_X6_init false false j0 x1 L
theorem fw_torn4 (R : Nat → Nat → Option Nat) (j : Nat) (u v : Option Nat) : fw_u2 (fw_u2 (fw_u2 (fw_u2 (fw_u2 (fw_u2 (fw_u2 R j 0 (some j)) j 1 u) j 2 v) j 1 none) j 3 none) j 0 none) j 2 none = fun a b => if a = j ∧ b < 4 then none else R a b := by
  funext a b
  unfold fw_u2
  by_cases h : a = j
  · subst h
    rcases (show b = 0 ∨ b = 1 ∨ b = 2 ∨ b = 3 ∨ 4 ≤ b by omega) with e | e | e | e | e
    · subst e; simp
    · subst e; simp
    · subst e; simp
    · subst e; simp
    · have h0 : ¬ b = 0 := by omega
      have h1 : ¬ b = 1 := by omega
      have h2 : ¬ b = 2 := by omega
      have h3 : ¬ b = 3 := by omega
      have h4 : ¬ b < 4 := by omega
      simp [h0, h1, h2, h3, h4]
  · simp [h]
theorem fw_torn5 (b1 b2 : Bool) (j0 : Nat) (L : LH) : f_J4_init_2 b1 b2 j0 none none (nI 0) (nI 0) L = if lh_k L j0 = 7 then some ((), (lh_k L, lh_I L, (fun a b => if a = j0 ∧ b < 4 then none else lh_R L a b), lh_n L, lh_z L), 0, 0) else none := by
  have e0 : (nI 0 : Int32) = 0 := rfl
  unfold f_J4_init_2 f_J4_init_2_41
  by_cases hk : lh_k L j0 = 7
  · simp only [fw_pR, lh_k_sR, hk, if_true, e0]
    show some ((), (lh_k L, lh_I L, fw_u2 (fw_u2 (fw_u2 (fw_u2 (fw_u2 (fw_u2 (fw_u2 (lh_R L) j0 0 (some j0)) j0 1 (fw_un b1 13)) j0 2 (fw_un b2 14)) j0 1 none) j0 3 none) j0 0 none) j0 2 none, lh_n L, lh_z L), 0, 0) = _
    rw [fw_torn4]
  · simp only [fw_pR, hk, if_false]
theorem fw_torn6 (b1 b2 : Bool) (j0 : Nat) (x1 : Int32) (L : LH) : f_X6_init b1 b2 j0 x1 L = f_X6_torn j0 x1 L := by
  unfold f_X6_torn f_X6_init f_J5_init
  rw [fw_torn5 b1 b2, fw_torn5 false false]
theorem ct_X6_torn {j0 : Nat} {x1 : Int32} {L : LH} {r9 : Unit} {L9 : LH} {mc ms : Nat} (h : f_X6_torn j0 x1 L = some (r9, L9, mc, ms)) : fw_Cx yX6_init (ws_ yX6_init cX6_init 2 none) 3 68 [aR (some j0), aI x1] L none L9 mc ms := fun b1 b2 => ct_X6_init (by rw [fw_torn6 b1 b2]; exact h)
def f_X7_init (j0 : Nat) (rp1 : Option Nat) (x2 : Int32) (x3 : Int32) (L : LH) : Rs Unit :=
  fw_pR 6 L j0 0 rp1 fun L1 =>
  fw_pI 6 L1 j0 1 x2 fun L2 =>
  fw_pI 6 L2 j0 2 x3 fun L3 =>
  some ((), L3, 0, 0)
set_option maxHeartbeats 4000000 in
set_option maxRecDepth 100000 in
theorem w_X7_init_0 {K : Kx} {r9 : Unit} {L9 : LH} (hK : Ok K cX7_init 4 RX7 1 20) (hZ : fw_isZ K) (hini : (kx_me K).name = "<init>") (hF : Fin K none none L9) {j0 : Nat} {rp1 : Option Nat} {x2 : Int32} {x3 : Int32} {L : LH} {mc ms : Nat} (h : f_X7_init j0 rp1 x2 x3 L = some (r9, L9, mc, ms)) : AW K L mc ms 0 [(0, aR (some j0)), (1, aR rp1), (2, aI x2), (3, aI x3)] [] := by
  unfold f_X7_init at h
  refine aw_aload_n hK 0 dX7_init_0 rfl rfl ?_
  refine aw_objInit hK q567 q128 q129 dX7_init_1 (by decide) (Nat.le_of_ble_eq_true rfl) ?_
  refine aw_aload_n hK 0 dX7_init_4 rfl rfl ?_
  refine aw_aload_n hK 1 dX7_init_5 rfl rfl ?_
  refine aw_pR hK fw_c5 0 (by decide) rfl q568 (fun _ h9 => h9) rfl (fun r => by cases r <;> exact ⟨rfl, rfl⟩) dX7_init_6 h (fun L1 h => ?_)
  refine aw_aload_n hK 0 dX7_init_9 rfl rfl ?_
  refine aw_iload_n hK 2 dX7_init_10 rfl rfl ?_
  refine aw_pI hK fw_c5 1 (by decide) rfl q570 (fun _ h9 => h9) rfl rfl rfl dX7_init_11 h (fun L2 h => ?_)
  refine aw_aload_n hK 0 dX7_init_14 rfl rfl ?_
  refine aw_iload_n hK 3 dX7_init_15 rfl rfl ?_
  refine aw_pIF hK hini fw_c5 2 (by decide) rfl q572 (fun _ h9 => h9) rfl rfl rfl rfl dX7_init_16 h (fun L3 h => ?_)
  exact aw_vret hK dX7_init_19 h hF
theorem ct_X7_init {j0 : Nat} {rp1 : Option Nat} {x2 : Int32} {x3 : Int32} {L : LH} {r9 : Unit} {L9 : LH} {mc ms : Nat} (h : f_X7_init j0 rp1 x2 x3 L = some (r9, L9, mc, ms)) : fw_Cx yX7_init (ws_ yX7_init cX7_init 4 none) 1 20 [aR (some j0), aR rp1, aI x2, aI x3] L none L9 mc ms :=
  fun b1 b2 => ct_of (own := RX7) fw_ZX_ok (by decide +kernel) rfl (Nat.le_of_ble_eq_true rfl) (fun K hZ hK hF hini => w_X7_init_0 hK ⟨b1, b2, hZ⟩ hini hF h)
def f_X8_number (j0 : Nat) (L : LH) : Rs Int32 :=
  fw_isR 3 j0 <|
  fw_cl (f_X10_number j0 L) fun v2 L1 =>
  some ((v2 + (nI 2)), L1, 0, 0)
set_option maxHeartbeats 4000000 in
set_option maxRecDepth 100000 in
theorem w_X8_number_0 {K : Kx} {r9 : Int32} {L9 : LH} (hK : Ok K cX8_number 1 RX8 1 20) (hZ : fw_isZ K) (hF : Fin K (some (.int)) (some (aI r9)) L9) {j0 : Nat} {L : LH} {mc ms : Nat} (h : f_X8_number j0 L = some (r9, L9, mc, ms)) : AW K L mc ms 0 [(0, aR (some j0))] [] := by
  unfold f_X8_number at h
  refine aw_aload_n hK 0 dX8_number_0 rfl rfl ?_
  obtain ⟨hj, h⟩ := fw_if_h h
  refine aw_callQ_i hK (fun _ _ _ _ q => rq_SU (n := 0) hK (by rw [hj]; exact (fw_rcvM hK hZ).2.2) (fw_czx hZ (ct_X10_number q)) (lw_SU q695 q691 q696 q689 q1722 q697) (by decide +kernel) (by decide) rfl rfl (Nat.le_of_ble_eq_true rfl) dX8_number_1) (fw_mt (n := 1) rfl) h (fun v2 L1 _ _ h => ?_)
  refine aw_iconst (v := (nI 2)) hK dX8_number_4 rfl ?_
  refine aw_iadd hK dX8_number_5 ?_
  exact aw_iret hK dX8_number_6 h hF
theorem ct_X8_number {j0 : Nat} {L : LH} {r9 : Int32} {L9 : LH} {mc ms : Nat} (h : f_X8_number j0 L = some (r9, L9, mc, ms)) : fw_Cx yX8_number (ws_ yX8_number cX8_number 1 (some (.int))) 1 20 [aR (some j0)] L (some (aI r9)) L9 mc ms :=
  fun b1 b2 => ct_of (own := RX8) fw_ZX_ok (by decide +kernel) rfl (Nat.le_of_ble_eq_true rfl) (fun K hZ hK hF hini => w_X8_number_0 hK ⟨b1, b2, hZ⟩ hF h)
def f_X8_isAnchor (j0 : Nat) (L : LH) : Rs Int32 :=
  some ((nI 1), L, 0, 0)
set_option maxHeartbeats 4000000 in
set_option maxRecDepth 100000 in
theorem w_X8_isAnchor_0 {K : Kx} {r9 : Int32} {L9 : LH} (hK : Ok K cX8_isAnchor 1 RX8 0 0) (hZ : fw_isZ K) (hF : Fin K (some (.boolean)) (some (aI r9)) L9) {j0 : Nat} {L : LH} {mc ms : Nat} (h : f_X8_isAnchor j0 L = some (r9, L9, mc, ms)) : AW K L mc ms 0 [(0, aR (some j0))] [] := by
  unfold f_X8_isAnchor at h
  refine aw_iconst (v := (nI 1)) hK dX8_isAnchor_0 rfl ?_
  exact aw_zret hK (by decide) dX8_isAnchor_1 h hF
theorem ct_X8_isAnchor {j0 : Nat} {L : LH} {r9 : Int32} {L9 : LH} {mc ms : Nat} (h : f_X8_isAnchor j0 L = some (r9, L9, mc, ms)) : fw_Cx yX8_isAnchor (ws_ yX8_isAnchor cX8_isAnchor 1 (some (.boolean))) 0 0 [aR (some j0)] L (some (aI r9)) L9 mc ms :=
  fun b1 b2 => ct_of (own := RX8) fw_ZX_ok (by decide +kernel) rfl (Nat.le_of_ble_eq_true rfl) (fun K hZ hK hF hini => w_X8_isAnchor_0 hK ⟨b1, b2, hZ⟩ hF h)
def f_X8_heaves (j0 : Nat) (L : LH) : Rs Int32 :=
  fw_isR 3 j0 <|
  fw_cl (f_X10_heaves j0 L) fun v2 L1 =>
  some ((v2 + (nI 1)), L1, 0, 0)
set_option maxHeartbeats 4000000 in
set_option maxRecDepth 100000 in
theorem w_X8_heaves_0 {K : Kx} {r9 : Int32} {L9 : LH} (hK : Ok K cX8_heaves 1 RX8 1 20) (hZ : fw_isZ K) (hF : Fin K (some (.int)) (some (aI r9)) L9) {j0 : Nat} {L : LH} {mc ms : Nat} (h : f_X8_heaves j0 L = some (r9, L9, mc, ms)) : AW K L mc ms 0 [(0, aR (some j0))] [] := by
  unfold f_X8_heaves at h
  refine aw_aload_n hK 0 dX8_heaves_0 rfl rfl ?_
  obtain ⟨hj, h⟩ := fw_if_h h
  refine aw_callQ_i hK (fun _ _ _ _ q => rq_SU (n := 0) hK (by rw [hj]; exact (fw_rcvM hK hZ).2.2) (fw_czx hZ (ct_X10_heaves q)) (lw_SU q853 q849 q696 q847 q1722 q854) (by decide +kernel) (by decide) rfl rfl (Nat.le_of_ble_eq_true rfl) dX8_heaves_1) (fw_mt (n := 1) rfl) h (fun v2 L1 _ _ h => ?_)
  refine aw_iconst (v := (nI 1)) hK dX8_heaves_4 rfl ?_
  refine aw_iadd hK dX8_heaves_5 ?_
  exact aw_iret hK dX8_heaves_6 h hF
theorem ct_X8_heaves {j0 : Nat} {L : LH} {r9 : Int32} {L9 : LH} {mc ms : Nat} (h : f_X8_heaves j0 L = some (r9, L9, mc, ms)) : fw_Cx yX8_heaves (ws_ yX8_heaves cX8_heaves 1 (some (.int))) 1 20 [aR (some j0)] L (some (aI r9)) L9 mc ms :=
  fun b1 b2 => ct_of (own := RX8) fw_ZX_ok (by decide +kernel) rfl (Nat.le_of_ble_eq_true rfl) (fun K hZ hK hF hini => w_X8_heaves_0 hK ⟨b1, b2, hZ⟩ hF h)
def f_X8_slides (j0 : Nat) (x1 : Int32) (x2 : Int32) (L : LH) : Rs Int32 :=
  fw_isR 3 j0 <|
  fw_cl (f_X10_slides j0 x1 (nI 0) L) fun v2 L1 =>
  some (v2, L1, 0, 0)
set_option maxHeartbeats 4000000 in
set_option maxRecDepth 100000 in
theorem w_X8_slides_0 {K : Kx} {r9 : Int32} {L9 : LH} (hK : Ok K cX8_slides 3 RX8 2 46) (hZ : fw_isZ K) (hF : Fin K (some (.int)) (some (aI r9)) L9) {j0 : Nat} {x1 : Int32} {x2 : Int32} {L : LH} {mc ms : Nat} (h : f_X8_slides j0 x1 x2 L = some (r9, L9, mc, ms)) : AW K L mc ms 0 [(0, aR (some j0)), (1, aI x1), (2, aI x2)] [] := by
  unfold f_X8_slides at h
  refine aw_aload_n hK 0 dX8_slides_0 rfl rfl ?_
  refine aw_iload_n hK 1 dX8_slides_1 rfl rfl ?_
  refine aw_iconst (v := (nI 0)) hK dX8_slides_2 rfl ?_
  obtain ⟨hj, h⟩ := fw_if_h h
  refine aw_callQ_i hK (fun _ _ _ _ q => rq_SU (n := 2) hK (by rw [hj]; exact (fw_rcvM hK hZ).2.2) (fw_czx hZ (ct_X10_slides q)) (lw_SU q866 q862 q696 q860 q1722 q867) (by decide +kernel) (by decide) rfl rfl (Nat.le_of_ble_eq_true rfl) dX8_slides_3) (fw_mt (n := 3) rfl) h (fun v2 L1 _ _ h => ?_)
  exact aw_iret hK dX8_slides_6 h hF
theorem ct_X8_slides {j0 : Nat} {x1 : Int32} {x2 : Int32} {L : LH} {r9 : Int32} {L9 : LH} {mc ms : Nat} (h : f_X8_slides j0 x1 x2 L = some (r9, L9, mc, ms)) : fw_Cx yX8_slides (ws_ yX8_slides cX8_slides 3 (some (.int))) 2 46 [aR (some j0), aI x1, aI x2] L (some (aI r9)) L9 mc ms :=
  fun b1 b2 => ct_of (own := RX8) fw_ZX_ok (by decide +kernel) rfl (Nat.le_of_ble_eq_true rfl) (fun K hZ hK hF hini => w_X8_slides_0 hK ⟨b1, b2, hZ⟩ hF h)
def f_X9_number (j0 : Nat) (L : LH) : Rs Int32 :=
  fw_isR 2 j0 <|
  fw_cl (f_X10_number j0 L) fun v2 L1 =>
  some ((v2 + (nI 1)), L1, 0, 0)
set_option maxHeartbeats 4000000 in
set_option maxRecDepth 100000 in
theorem w_X9_number_0 {K : Kx} {r9 : Int32} {L9 : LH} (hK : Ok K cX9_number 1 RX9 1 20) (hZ : fw_isZ K) (hF : Fin K (some (.int)) (some (aI r9)) L9) {j0 : Nat} {L : LH} {mc ms : Nat} (h : f_X9_number j0 L = some (r9, L9, mc, ms)) : AW K L mc ms 0 [(0, aR (some j0))] [] := by
  unfold f_X9_number at h
  refine aw_aload_n hK 0 dX9_number_0 rfl rfl ?_
  obtain ⟨hj, h⟩ := fw_if_h h
  refine aw_callQ_i hK (fun _ _ _ _ q => rq_SU (n := 0) hK (by rw [hj]; exact (fw_rcvM hK hZ).2.1) (fw_czx hZ (ct_X10_number q)) (lw_SU q701 q691 q702 q689 q1722 q697) (by decide +kernel) (by decide) rfl rfl (Nat.le_of_ble_eq_true rfl) dX9_number_1) (fw_mt (n := 1) rfl) h (fun v2 L1 _ _ h => ?_)
  refine aw_iconst (v := (nI 1)) hK dX9_number_4 rfl ?_
  refine aw_iadd hK dX9_number_5 ?_
  exact aw_iret hK dX9_number_6 h hF
theorem ct_X9_number {j0 : Nat} {L : LH} {r9 : Int32} {L9 : LH} {mc ms : Nat} (h : f_X9_number j0 L = some (r9, L9, mc, ms)) : fw_Cx yX9_number (ws_ yX9_number cX9_number 1 (some (.int))) 1 20 [aR (some j0)] L (some (aI r9)) L9 mc ms :=
  fun b1 b2 => ct_of (own := RX9) fw_ZX_ok (by decide +kernel) rfl (Nat.le_of_ble_eq_true rfl) (fun K hZ hK hF hini => w_X9_number_0 hK ⟨b1, b2, hZ⟩ hF h)
def f_X9_gains (j0 : Nat) (L : LH) : Rs Int32 :=
  fw_isR 2 j0 <|
  fw_cl (f_X10_gains j0 L) fun v2 L1 =>
  some (((nI 2) * v2), L1, 0, 0)
set_option maxHeartbeats 4000000 in
set_option maxRecDepth 100000 in
theorem w_X9_gains_0 {K : Kx} {r9 : Int32} {L9 : LH} (hK : Ok K cX9_gains 1 RX9 1 20) (hZ : fw_isZ K) (hF : Fin K (some (.int)) (some (aI r9)) L9) {j0 : Nat} {L : LH} {mc ms : Nat} (h : f_X9_gains j0 L = some (r9, L9, mc, ms)) : AW K L mc ms 0 [(0, aR (some j0))] [] := by
  unfold f_X9_gains at h
  refine aw_iconst (v := (nI 2)) hK dX9_gains_0 rfl ?_
  refine aw_aload_n hK 0 dX9_gains_1 rfl rfl ?_
  obtain ⟨hj, h⟩ := fw_if_h h
  refine aw_callQ_i hK (fun _ _ _ _ q => rq_SU (n := 0) hK (by rw [hj]; exact (fw_rcvM hK hZ).2.1) (fw_czx hZ (ct_X10_gains q)) (lw_SU q840 q835 q702 q833 q1722 q841) (by decide +kernel) (by decide) rfl rfl (Nat.le_of_ble_eq_true rfl) dX9_gains_2) (fw_mt (n := 1) rfl) h (fun v2 L1 _ _ h => ?_)
  refine aw_imul hK dX9_gains_5 ?_
  exact aw_iret hK dX9_gains_6 h hF
theorem ct_X9_gains {j0 : Nat} {L : LH} {r9 : Int32} {L9 : LH} {mc ms : Nat} (h : f_X9_gains j0 L = some (r9, L9, mc, ms)) : fw_Cx yX9_gains (ws_ yX9_gains cX9_gains 1 (some (.int))) 1 20 [aR (some j0)] L (some (aI r9)) L9 mc ms :=
  fun b1 b2 => ct_of (own := RX9) fw_ZX_ok (by decide +kernel) rfl (Nat.le_of_ble_eq_true rfl) (fun K hZ hK hF hini => w_X9_gains_0 hK ⟨b1, b2, hZ⟩ hF h)
def f_X9_heaves (j0 : Nat) (L : LH) : Rs Int32 :=
  fw_isR 2 j0 <|
  fw_cl (f_X10_heaves j0 L) fun v2 L1 =>
  some ((v2 + (nI 1)), L1, 0, 0)
set_option maxHeartbeats 4000000 in
set_option maxRecDepth 100000 in
theorem w_X9_heaves_0 {K : Kx} {r9 : Int32} {L9 : LH} (hK : Ok K cX9_heaves 1 RX9 1 20) (hZ : fw_isZ K) (hF : Fin K (some (.int)) (some (aI r9)) L9) {j0 : Nat} {L : LH} {mc ms : Nat} (h : f_X9_heaves j0 L = some (r9, L9, mc, ms)) : AW K L mc ms 0 [(0, aR (some j0))] [] := by
  unfold f_X9_heaves at h
  refine aw_aload_n hK 0 dX9_heaves_0 rfl rfl ?_
  obtain ⟨hj, h⟩ := fw_if_h h
  refine aw_callQ_i hK (fun _ _ _ _ q => rq_SU (n := 0) hK (by rw [hj]; exact (fw_rcvM hK hZ).2.1) (fw_czx hZ (ct_X10_heaves q)) (lw_SU q858 q849 q702 q847 q1722 q854) (by decide +kernel) (by decide) rfl rfl (Nat.le_of_ble_eq_true rfl) dX9_heaves_1) (fw_mt (n := 1) rfl) h (fun v2 L1 _ _ h => ?_)
  refine aw_iconst (v := (nI 1)) hK dX9_heaves_4 rfl ?_
  refine aw_iadd hK dX9_heaves_5 ?_
  exact aw_iret hK dX9_heaves_6 h hF
theorem ct_X9_heaves {j0 : Nat} {L : LH} {r9 : Int32} {L9 : LH} {mc ms : Nat} (h : f_X9_heaves j0 L = some (r9, L9, mc, ms)) : fw_Cx yX9_heaves (ws_ yX9_heaves cX9_heaves 1 (some (.int))) 1 20 [aR (some j0)] L (some (aI r9)) L9 mc ms :=
  fun b1 b2 => ct_of (own := RX9) fw_ZX_ok (by decide +kernel) rfl (Nat.le_of_ble_eq_true rfl) (fun K hZ hK hF hini => w_X9_heaves_0 hK ⟨b1, b2, hZ⟩ hF h)
def f_X0_init (j0 : Nat) (L : LH) : Rs Unit :=
  fw_na 106 (nI 2) L fun j1 L2 =>
  fw_nw 2 6 L2 fun j3 L4 =>
  fw_cl (f_X2_init j3 L4) fun _ L5 =>
  fw_wqa 6 L5 j1 (nI 0) (some j3) fun L6 =>
  fw_nw 2 6 L6 fun j7 L8 =>
  fw_cl (f_X2_init j7 L8) fun _ L9 =>
  fw_wqa 6 L9 j1 (nI 1) (some j7) fun L10 =>
  fw_pR 1 L10 j0 1 (some j1) fun L11 =>
  fw_na 107 (nI 2) L11 fun j12 L13 =>
  fw_nw 3 7 L13 fun j14 L15 =>
  fw_cl (f_X3_init j14 L15) fun _ L16 =>
  fw_wqa 7 L16 j12 (nI 0) (some j14) fun L17 =>
  fw_nw 3 7 L17 fun j18 L19 =>
  fw_cl (f_X3_init j18 L19) fun _ L20 =>
  fw_wqa 7 L20 j12 (nI 1) (some j18) fun L21 =>
  fw_pR 1 L21 j0 2 (some j12) fun L22 =>
  fw_na 108 (nI 4) L22 fun j23 L24 =>
  fw_gR 1 L24 j0 1 fun r25 =>
  fw_nn r25 fun j26 =>
  fw_rq 106 L24 j26 (nI 0) fun r27 =>
  fw_wqa 8 L24 j23 (nI 0) r27 fun L28 =>
  fw_gR 1 L28 j0 1 fun r29 =>
  fw_nn r29 fun j30 =>
  fw_rq 106 L28 j30 (nI 1) fun r31 =>
  fw_wqa 8 L28 j23 (nI 1) r31 fun L32 =>
  fw_gR 1 L32 j0 2 fun r33 =>
  fw_nn r33 fun j34 =>
  fw_rq 107 L32 j34 (nI 0) fun r35 =>
  fw_wqa 8 L32 j23 (nI 2) r35 fun L36 =>
  fw_gR 1 L36 j0 2 fun r37 =>
  fw_nn r37 fun j38 =>
  fw_rq 107 L36 j38 (nI 1) fun r39 =>
  fw_wqa 8 L36 j23 (nI 3) r39 fun L40 =>
  fw_pR 1 L40 j0 3 (some j23) fun L41 =>
  fw_nw 5 3 L41 fun j42 L43 =>
  fw_cl (f_J2_init j42 L43) fun _ L44 =>
  fw_pR 1 L44 j0 5 (some j42) fun L45 =>
  fw_na 100 (nI 16) L45 fun j46 L47 =>
  fw_pR 1 L47 j0 10 (some j46) fun L48 =>
  fw_na 100 (nI 16) L48 fun j49 L50 =>
  fw_pR 1 L50 j0 11 (some j49) fun L51 =>
  fw_mu (nI 24) (nI 4) L51 fun j52 L53 =>
  fw_pR 1 L53 j0 12 (some j52) fun L54 =>
  fw_mu (nI 24) (nI 16) L54 fun j55 L56 =>
  fw_pR 1 L56 j0 13 (some j55) fun L57 =>
  fw_mu (nI 24) (nI 16) L57 fun j58 L59 =>
  fw_pR 1 L59 j0 14 (some j58) fun L60 =>
  fw_na 100 (nI 2) L60 fun j61 L62 =>
  fw_pR 1 L62 j0 15 (some j61) fun L63 =>
  fw_pI 1 L63 j0 17 (-nI 1) fun L64 =>
  fw_pI 1 L64 j0 18 (-nI 1) fun L65 =>
  fw_nw 5 3 L65 fun j66 L67 =>
  fw_cl (f_J2_init j66 L67) fun _ L68 =>
  fw_pR 1 L68 j0 20 (some j66) fun L69 =>
  fw_mu (nI 10) (nI 24) L69 fun j70 L71 =>
  fw_pR 1 L71 j0 21 (some j70) fun L72 =>
  fw_na 100 (nI 24) L72 fun j73 L74 =>
  fw_pR 1 L74 j0 23 (some j73) fun L75 =>
  fw_na 109 (nI 4) L75 fun j76 L77 =>
  fw_nw 4 1 L77 fun j78 L79 =>
  fw_cl (f_X4_init j78 L79) fun _ L80 =>
  fw_wqa 9 L80 j76 (nI 0) (some j78) fun L81 =>
  fw_nw 4 1 L81 fun j82 L83 =>
  fw_cl (f_X4_init j82 L83) fun _ L84 =>
  fw_wqa 9 L84 j76 (nI 1) (some j82) fun L85 =>
  fw_nw 4 1 L85 fun j86 L87 =>
  fw_cl (f_X4_init j86 L87) fun _ L88 =>
  fw_wqa 9 L88 j76 (nI 2) (some j86) fun L89 =>
  fw_nw 4 1 L89 fun j90 L91 =>
  fw_cl (f_X4_init j90 L91) fun _ L92 =>
  fw_wqa 9 L92 j76 (nI 3) (some j90) fun L93 =>
  fw_pR 1 L93 j0 24 (some j76) fun L94 =>
  some ((), L94, 0, 0)
set_option maxHeartbeats 4000000 in
set_option maxRecDepth 100000 in
theorem w_X0_init_0 {K : Kx} {r9 : Unit} {L9 : LH} (hK : Ok K cX0_init 1 RX0 5 100) (hZ : fw_isZ K) (hini : (kx_me K).name = "<init>") (hF : Fin K none none L9) {j0 : Nat} {L : LH} {mc ms : Nat} (h : f_X0_init j0 L = some (r9, L9, mc, ms)) : AW K L mc ms 0 [(0, aR (some j0))] [] := by
  unfold f_X0_init at h
  refine aw_aload_n hK 0 dX0_init_0 rfl rfl ?_
  refine aw_objInit hK q127 q128 q129 dX0_init_1 (by decide) (Nat.le_of_ble_eq_true rfl) ?_
  refine aw_aload_n hK 0 dX0_init_4 rfl rfl ?_
  refine aw_iconst (v := (nI 2)) hK dX0_init_5 rfl ?_
  refine aw_anew hK hZ 6 (by decide) rfl q130 dX0_init_6 h (fun j1 L2 _ _ h => ?_)
  refine aw_dup hK dX0_init_9 rfl ?_
  refine aw_iconst (v := (nI 0)) hK dX0_init_10 rfl ?_
  refine aw_new hK fw_c1 q130 q132 q96 dX0_init_11 h (fun j3 L4 _ _ h => ?_)
  refine aw_dup hK dX0_init_14 rfl ?_
  refine aw_callI (n := 0) (As := []) hK (fun _ _ _ _ q => (fw_czx hZ (ct_X2_init q))) (lw_meth q135) q96 q133 q134 rfl (by decide +kernel) (by decide) rfl rfl (Nat.le_of_ble_eq_true rfl) dX0_init_15 h (fun L5 _ _ h => ?_)
  refine aw_aast hK hZ 6 (by decide) dX0_init_18 h (fun L6 h => ?_)
  refine aw_dup hK dX0_init_19 rfl ?_
  refine aw_iconst (v := (nI 1)) hK dX0_init_20 rfl ?_
  refine aw_new hK fw_c1 q130 q132 q96 dX0_init_21 h (fun j7 L8 _ _ h => ?_)
  refine aw_dup hK dX0_init_24 rfl ?_
  refine aw_callI (n := 0) (As := []) hK (fun _ _ _ _ q => (fw_czx hZ (ct_X2_init q))) (lw_meth q135) q96 q133 q134 rfl (by decide +kernel) (by decide) rfl rfl (Nat.le_of_ble_eq_true rfl) dX0_init_25 h (fun L9 _ _ h => ?_)
  refine aw_aast hK hZ 6 (by decide) dX0_init_28 h (fun L10 h => ?_)
  refine aw_pRF hK hini fw_c0 1 (by decide) rfl q227 (fun _ h9 => h9) rfl rfl (fun r => by cases r <;> exact ⟨rfl, rfl⟩) dX0_init_29 h (fun L11 h => ?_)
  refine aw_aload_n hK 0 dX0_init_32 rfl rfl ?_
  refine aw_iconst (v := (nI 2)) hK dX0_init_33 rfl ?_
  refine aw_anew hK hZ 7 (by decide) rfl q187 dX0_init_34 h (fun j12 L13 _ _ h => ?_)
  refine aw_dup hK dX0_init_37 rfl ?_
  refine aw_iconst (v := (nI 0)) hK dX0_init_38 rfl ?_
  refine aw_new hK fw_c2 q187 q189 q100 dX0_init_39 h (fun j14 L15 _ _ h => ?_)
  refine aw_dup hK dX0_init_42 rfl ?_
  refine aw_callI (n := 0) (As := []) hK (fun _ _ _ _ q => (fw_czx hZ (ct_X3_init q))) (lw_meth q192) q100 q190 q191 rfl (by decide +kernel) (by decide) rfl rfl (Nat.le_of_ble_eq_true rfl) dX0_init_43 h (fun L16 _ _ h => ?_)
  refine aw_aast hK hZ 7 (by decide) dX0_init_46 h (fun L17 h => ?_)
  refine aw_dup hK dX0_init_47 rfl ?_
  refine aw_iconst (v := (nI 1)) hK dX0_init_48 rfl ?_
  refine aw_new hK fw_c2 q187 q189 q100 dX0_init_49 h (fun j18 L19 _ _ h => ?_)
  refine aw_dup hK dX0_init_52 rfl ?_
  refine aw_callI (n := 0) (As := []) hK (fun _ _ _ _ q => (fw_czx hZ (ct_X3_init q))) (lw_meth q192) q100 q190 q191 rfl (by decide +kernel) (by decide) rfl rfl (Nat.le_of_ble_eq_true rfl) dX0_init_53 h (fun L20 _ _ h => ?_)
  refine aw_aast hK hZ 7 (by decide) dX0_init_56 h (fun L21 h => ?_)
  refine aw_pRF hK hini fw_c0 2 (by decide) rfl q228 (fun _ h9 => h9) rfl rfl (fun r => by cases r <;> exact ⟨rfl, rfl⟩) dX0_init_57 h (fun L22 h => ?_)
  refine aw_aload_n hK 0 dX0_init_60 rfl rfl ?_
  refine aw_iconst (v := (nI 4)) hK dX0_init_61 rfl ?_
  refine aw_anew hK hZ 8 (by decide) rfl q208 dX0_init_62 h (fun j23 L24 _ _ h => ?_)
  refine aw_dup hK dX0_init_65 rfl ?_
  refine aw_iconst (v := (nI 0)) hK dX0_init_66 rfl ?_
  refine aw_aload_n hK 0 dX0_init_67 rfl rfl ?_
  refine aw_gR hK fw_c0 1 (by decide) rfl q227 (fun _ h9 => h9) dX0_init_68 h (fun r25 h => ?_)
  refine aw_iconst (v := (nI 0)) hK dX0_init_71 rfl ?_
  obtain _ | j26 := r25
  · exact (fw_nn_no h).elim
  replace h := fw_nn_so h
  refine aw_aald hK 6 (by decide) rfl dX0_init_72 h (fun r27 h => ?_)
  refine aw_aast hK hZ 8 (by decide) dX0_init_73 h (fun L28 h => ?_)
  refine aw_dup hK dX0_init_74 rfl ?_
  refine aw_iconst (v := (nI 1)) hK dX0_init_75 rfl ?_
  refine aw_aload_n hK 0 dX0_init_76 rfl rfl ?_
  refine aw_gR hK fw_c0 1 (by decide) rfl q227 (fun _ h9 => h9) dX0_init_77 h (fun r29 h => ?_)
  refine aw_iconst (v := (nI 1)) hK dX0_init_80 rfl ?_
  obtain _ | j30 := r29
  · exact (fw_nn_no h).elim
  replace h := fw_nn_so h
  refine aw_aald hK 6 (by decide) rfl dX0_init_81 h (fun r31 h => ?_)
  refine aw_aast hK hZ 8 (by decide) dX0_init_82 h (fun L32 h => ?_)
  refine aw_dup hK dX0_init_83 rfl ?_
  refine aw_iconst (v := (nI 2)) hK dX0_init_84 rfl ?_
  refine aw_aload_n hK 0 dX0_init_85 rfl rfl ?_
  refine aw_gR hK fw_c0 2 (by decide) rfl q228 (fun _ h9 => h9) dX0_init_86 h (fun r33 h => ?_)
  refine aw_iconst (v := (nI 0)) hK dX0_init_89 rfl ?_
  obtain _ | j34 := r33
  · exact (fw_nn_no h).elim
  replace h := fw_nn_so h
  refine aw_aald hK 7 (by decide) rfl dX0_init_90 h (fun r35 h => ?_)
  refine aw_aast hK hZ 8 (by decide) dX0_init_91 h (fun L36 h => ?_)
  refine aw_dup hK dX0_init_92 rfl ?_
  refine aw_iconst (v := (nI 3)) hK dX0_init_93 rfl ?_
  refine aw_aload_n hK 0 dX0_init_94 rfl rfl ?_
  refine aw_gR hK fw_c0 2 (by decide) rfl q228 (fun _ h9 => h9) dX0_init_95 h (fun r37 h => ?_)
  refine aw_iconst (v := (nI 1)) hK dX0_init_98 rfl ?_
  obtain _ | j38 := r37
  · exact (fw_nn_no h).elim
  replace h := fw_nn_so h
  refine aw_aald hK 7 (by decide) rfl dX0_init_99 h (fun r39 h => ?_)
  refine aw_aast hK hZ 8 (by decide) dX0_init_100 h (fun L40 h => ?_)
  refine aw_pRF hK hini fw_c0 3 (by decide) rfl q229 (fun _ h9 => h9) rfl rfl (fun r => by cases r <;> exact ⟨rfl, rfl⟩) dX0_init_101 h (fun L41 h => ?_)
  refine aw_aload_n hK 0 dX0_init_104 rfl rfl ?_
  refine aw_new hK fw_c4 q210 q141 q99 dX0_init_105 h (fun j42 L43 _ _ h => ?_)
  refine aw_dup hK dX0_init_108 rfl ?_
  refine aw_callI (n := 0) (As := []) hK (fun _ _ _ _ q => (fw_czx hZ (ct_J2_init q))) (lw_meth q144) q99 q211 q143 rfl (by decide +kernel) (by decide) rfl rfl (Nat.le_of_ble_eq_true rfl) dX0_init_109 h (fun L44 _ _ h => ?_)
  refine aw_pRF hK hini fw_c0 5 (by decide) rfl q231 (fun _ h9 => h9) rfl rfl (fun r => by cases r <;> exact ⟨rfl, rfl⟩) dX0_init_112 h (fun L45 h => ?_)
  refine aw_aload_n hK 0 dX0_init_115 rfl rfl ?_
  refine aw_bipush (v := (nI 16)) hK dX0_init_116 rfl ?_
  refine aw_newa hK 0 (by decide) rfl q207 dX0_init_118 h (fun j46 L47 _ _ h => ?_)
  refine aw_pRF hK hini fw_c0 10 (by decide) rfl q236 (fun _ h9 => h9) rfl rfl (fun r => by cases r <;> exact ⟨rfl, rfl⟩) dX0_init_120 h (fun L48 h => ?_)
  refine aw_aload_n hK 0 dX0_init_123 rfl rfl ?_
  refine aw_bipush (v := (nI 16)) hK dX0_init_124 rfl ?_
  refine aw_newa hK 0 (by decide) rfl q207 dX0_init_126 h (fun j49 L50 _ _ h => ?_)
  refine aw_pRF hK hini fw_c0 11 (by decide) rfl q237 (fun _ h9 => h9) rfl rfl (fun r => by cases r <;> exact ⟨rfl, rfl⟩) dX0_init_128 h (fun L51 h => ?_)
  refine aw_aload_n hK 0 dX0_init_131 rfl rfl ?_
  refine aw_bipush (v := (nI 24)) hK dX0_init_132 rfl ?_
  refine aw_iconst (v := (nI 4)) hK dX0_init_134 rfl ?_
  refine aw_multi hK hZ q212 dX0_init_135 h (fun j52 L53 _ _ h => ?_)
  refine aw_pRF hK hini fw_c0 12 (by decide) rfl q238 (fun _ h9 => h9) rfl rfl (fun r => by cases r <;> exact ⟨rfl, rfl⟩) dX0_init_139 h (fun L54 h => ?_)
  refine aw_aload_n hK 0 dX0_init_142 rfl rfl ?_
  refine aw_bipush (v := (nI 24)) hK dX0_init_143 rfl ?_
  refine aw_bipush (v := (nI 16)) hK dX0_init_145 rfl ?_
  refine aw_multi hK hZ q212 dX0_init_147 h (fun j55 L56 _ _ h => ?_)
  refine aw_pRF hK hini fw_c0 13 (by decide) rfl q239 (fun _ h9 => h9) rfl rfl (fun r => by cases r <;> exact ⟨rfl, rfl⟩) dX0_init_151 h (fun L57 h => ?_)
  refine aw_aload_n hK 0 dX0_init_154 rfl rfl ?_
  refine aw_bipush (v := (nI 24)) hK dX0_init_155 rfl ?_
  refine aw_bipush (v := (nI 16)) hK dX0_init_157 rfl ?_
  refine aw_multi hK hZ q212 dX0_init_159 h (fun j58 L59 _ _ h => ?_)
  refine aw_pRF hK hini fw_c0 14 (by decide) rfl q240 (fun _ h9 => h9) rfl rfl (fun r => by cases r <;> exact ⟨rfl, rfl⟩) dX0_init_163 h (fun L60 h => ?_)
  refine aw_aload_n hK 0 dX0_init_166 rfl rfl ?_
  refine aw_iconst (v := (nI 2)) hK dX0_init_167 rfl ?_
  refine aw_newa hK 0 (by decide) rfl q207 dX0_init_168 h (fun j61 L62 _ _ h => ?_)
  refine aw_pRF hK hini fw_c0 15 (by decide) rfl q241 (fun _ h9 => h9) rfl rfl (fun r => by cases r <;> exact ⟨rfl, rfl⟩) dX0_init_170 h (fun L63 h => ?_)
  refine aw_aload_n hK 0 dX0_init_173 rfl rfl ?_
  refine aw_iconst (v := (-nI 1)) hK dX0_init_174 rfl ?_
  refine aw_pI hK fw_c0 17 (by decide) rfl q243 (fun _ h9 => h9) rfl rfl rfl dX0_init_175 h (fun L64 h => ?_)
  refine aw_aload_n hK 0 dX0_init_178 rfl rfl ?_
  refine aw_iconst (v := (-nI 1)) hK dX0_init_179 rfl ?_
  refine aw_pI hK fw_c0 18 (by decide) rfl q244 (fun _ h9 => h9) rfl rfl rfl dX0_init_180 h (fun L65 h => ?_)
  refine aw_aload_n hK 0 dX0_init_183 rfl rfl ?_
  refine aw_new hK fw_c4 q210 q141 q99 dX0_init_184 h (fun j66 L67 _ _ h => ?_)
  refine aw_dup hK dX0_init_187 rfl ?_
  refine aw_callI (n := 0) (As := []) hK (fun _ _ _ _ q => (fw_czx hZ (ct_J2_init q))) (lw_meth q144) q99 q211 q143 rfl (by decide +kernel) (by decide) rfl rfl (Nat.le_of_ble_eq_true rfl) dX0_init_188 h (fun L68 _ _ h => ?_)
  refine aw_pRF hK hini fw_c0 20 (by decide) rfl q246 (fun _ h9 => h9) rfl rfl (fun r => by cases r <;> exact ⟨rfl, rfl⟩) dX0_init_191 h (fun L69 h => ?_)
  refine aw_aload_n hK 0 dX0_init_194 rfl rfl ?_
  refine aw_bipush (v := (nI 10)) hK dX0_init_195 rfl ?_
  refine aw_bipush (v := (nI 24)) hK dX0_init_197 rfl ?_
  refine aw_multi hK hZ q212 dX0_init_199 h (fun j70 L71 _ _ h => ?_)
  refine aw_pRF hK hini fw_c0 21 (by decide) rfl q247 (fun _ h9 => h9) rfl rfl (fun r => by cases r <;> exact ⟨rfl, rfl⟩) dX0_init_203 h (fun L72 h => ?_)
  refine aw_aload_n hK 0 dX0_init_206 rfl rfl ?_
  refine aw_bipush (v := (nI 24)) hK dX0_init_207 rfl ?_
  refine aw_newa hK 0 (by decide) rfl q207 dX0_init_209 h (fun j73 L74 _ _ h => ?_)
  refine aw_pRF hK hini fw_c0 23 (by decide) rfl q249 (fun _ h9 => h9) rfl rfl (fun r => by cases r <;> exact ⟨rfl, rfl⟩) dX0_init_211 h (fun L75 h => ?_)
  refine aw_aload_n hK 0 dX0_init_214 rfl rfl ?_
  refine aw_iconst (v := (nI 4)) hK dX0_init_215 rfl ?_
  refine aw_anew hK hZ 9 (by decide) rfl q214 dX0_init_216 h (fun j76 L77 _ _ h => ?_)
  refine aw_dup hK dX0_init_219 rfl ?_
  refine aw_iconst (v := (nI 0)) hK dX0_init_220 rfl ?_
  refine aw_new hK fw_c3 q214 q216 q101 dX0_init_221 h (fun j78 L79 _ _ h => ?_)
  refine aw_dup hK dX0_init_224 rfl ?_
  refine aw_callQ_v hK (fun _ _ _ _ q => rq_IN (n := 0) hK (fw_czx hZ (ct_X4_init q)) (lw_meth q219) (fw_nsM hK hZ (w := Cond.methodLinkNest "TugOfWar" 79 ⟨"TugOfWar$Sheet", "<init>", "()V"⟩ "TugOfWar") (by decide)) q101 q218 rfl (by decide +kernel) (by decide) rfl rfl (Nat.le_of_ble_eq_true rfl) dX0_init_225) (fw_mt (n := 1) rfl) h (fun _ L80 _ _ h => ?_)
  refine aw_aast hK hZ 9 (by decide) dX0_init_228 h (fun L81 h => ?_)
  refine aw_dup hK dX0_init_229 rfl ?_
  refine aw_iconst (v := (nI 1)) hK dX0_init_230 rfl ?_
  refine aw_new hK fw_c3 q214 q216 q101 dX0_init_231 h (fun j82 L83 _ _ h => ?_)
  refine aw_dup hK dX0_init_234 rfl ?_
  refine aw_callQ_v hK (fun _ _ _ _ q => rq_IN (n := 0) hK (fw_czx hZ (ct_X4_init q)) (lw_meth q219) (fw_nsM hK hZ (w := Cond.methodLinkNest "TugOfWar" 79 ⟨"TugOfWar$Sheet", "<init>", "()V"⟩ "TugOfWar") (by decide)) q101 q218 rfl (by decide +kernel) (by decide) rfl rfl (Nat.le_of_ble_eq_true rfl) dX0_init_235) (fw_mt (n := 1) rfl) h (fun _ L84 _ _ h => ?_)
  refine aw_aast hK hZ 9 (by decide) dX0_init_238 h (fun L85 h => ?_)
  refine aw_dup hK dX0_init_239 rfl ?_
  refine aw_iconst (v := (nI 2)) hK dX0_init_240 rfl ?_
  refine aw_new hK fw_c3 q214 q216 q101 dX0_init_241 h (fun j86 L87 _ _ h => ?_)
  refine aw_dup hK dX0_init_244 rfl ?_
  refine aw_callQ_v hK (fun _ _ _ _ q => rq_IN (n := 0) hK (fw_czx hZ (ct_X4_init q)) (lw_meth q219) (fw_nsM hK hZ (w := Cond.methodLinkNest "TugOfWar" 79 ⟨"TugOfWar$Sheet", "<init>", "()V"⟩ "TugOfWar") (by decide)) q101 q218 rfl (by decide +kernel) (by decide) rfl rfl (Nat.le_of_ble_eq_true rfl) dX0_init_245) (fw_mt (n := 1) rfl) h (fun _ L88 _ _ h => ?_)
  refine aw_aast hK hZ 9 (by decide) dX0_init_248 h (fun L89 h => ?_)
  refine aw_dup hK dX0_init_249 rfl ?_
  refine aw_iconst (v := (nI 3)) hK dX0_init_250 rfl ?_
  refine aw_new hK fw_c3 q214 q216 q101 dX0_init_251 h (fun j90 L91 _ _ h => ?_)
  refine aw_dup hK dX0_init_254 rfl ?_
  refine aw_callQ_v hK (fun _ _ _ _ q => rq_IN (n := 0) hK (fw_czx hZ (ct_X4_init q)) (lw_meth q219) (fw_nsM hK hZ (w := Cond.methodLinkNest "TugOfWar" 79 ⟨"TugOfWar$Sheet", "<init>", "()V"⟩ "TugOfWar") (by decide)) q101 q218 rfl (by decide +kernel) (by decide) rfl rfl (Nat.le_of_ble_eq_true rfl) dX0_init_255) (fw_mt (n := 1) rfl) h (fun _ L92 _ _ h => ?_)
  refine aw_aast hK hZ 9 (by decide) dX0_init_258 h (fun L93 h => ?_)
  refine aw_pRF hK hini fw_c0 24 (by decide) rfl q250 (fun _ h9 => h9) rfl rfl (fun r => by cases r <;> exact ⟨rfl, rfl⟩) dX0_init_259 h (fun L94 h => ?_)
  exact aw_vret hK dX0_init_262 h hF
theorem ct_X0_init {j0 : Nat} {L : LH} {r9 : Unit} {L9 : LH} {mc ms : Nat} (h : f_X0_init j0 L = some (r9, L9, mc, ms)) : fw_Cx yX0_init (ws_ yX0_init cX0_init 1 none) 5 100 [aR (some j0)] L none L9 mc ms :=
  fun b1 b2 => ct_of (own := RX0) fw_ZX_ok (by decide +kernel) rfl (Nat.le_of_ble_eq_true rfl) (fun K hZ hK hF hini => w_X0_init_0 hK ⟨b1, b2, hZ⟩ hini hF h)
def f_X0_in (y0 : Int64) (y2 : Int64) (y4 : Int64) (L : LH) : Rs Int32 :=
  if y0 < y2 then (
    some ((nI 0), L, 0, 0)
  ) else (
    if y4 < y0 then (
      some ((nI 0), L, 0, 0)
    ) else (
      some ((nI 1), L, 0, 0)
    )
  )
set_option maxHeartbeats 4000000 in
set_option maxRecDepth 100000 in
theorem w_X0_in_0 {K : Kx} {r9 : Int32} {L9 : LH} (hK : Ok K cX0_in 6 RX0 0 0) (hZ : fw_isZ K) (hF : Fin K (some (.boolean)) (some (aI r9)) L9) {y0 : Int64} {y2 : Int64} {y4 : Int64} {L : LH} {mc ms : Nat} (h : f_X0_in y0 y2 y4 L = some (r9, L9, mc, ms)) : AW K L mc ms 0 [(0, aL y0), (2, aL y2), (4, aL y4)] [] := by
  unfold f_X0_in at h
  refine aw_lload_n hK 0 dX0_in_0 rfl rfl ?_
  refine aw_lload_n hK 1 dX0_in_1 rfl rfl ?_
  refine aw_lcmp_lt (tgt := 17) hK dX0_in_2 dX0_in_3 (by decide) h (fun h => ?_) (fun h => ?_)
  · refine aw_iconst (v := (nI 0)) hK dX0_in_17 rfl ?_
    exact aw_zret hK (by decide) dX0_in_18 h hF
  · refine aw_lload_n hK 0 dX0_in_6 rfl rfl ?_
    refine aw_lload hK 2 dX0_in_7 rfl ?_
    refine aw_lcmp_gt (tgt := 17) hK dX0_in_9 dX0_in_10 (by decide) h (fun h => ?_) (fun h => ?_)
    · refine aw_iconst (v := (nI 0)) hK dX0_in_17 rfl ?_
      exact aw_zret hK (by decide) dX0_in_18 h hF
    · refine aw_iconst (v := (nI 1)) hK dX0_in_13 rfl ?_
      refine aw_goto (tgt := 18) hK dX0_in_14 (by decide) ?_
      exact aw_zret hK (by decide) dX0_in_18 h hF
theorem ct_X0_in {y0 : Int64} {y2 : Int64} {y4 : Int64} {L : LH} {r9 : Int32} {L9 : LH} {mc ms : Nat} (h : f_X0_in y0 y2 y4 L = some (r9, L9, mc, ms)) : fw_Cx yX0_in (ws_ yX0_in cX0_in 6 (some (.boolean))) 0 0 [aL y0, aL y2, aL y4] L (some (aI r9)) L9 mc ms :=
  fun b1 b2 => ct_of (own := RX0) fw_ZX_ok (by decide +kernel) rfl (Nat.le_of_ble_eq_true rfl) (fun K hZ hK hF hini => w_X0_in_0 hK ⟨b1, b2, hZ⟩ hF h)
def f_X0_isTwo (x0 : Int32) (L : LH) : Rs Int32 :=
  fw_cl (f_X0_in x0.toInt64 (0 : Int64) (1 : Int64) L) fun v2 L1 =>
  fw_bo v2 <|
  some (v2, L1, 0, 0)
set_option maxHeartbeats 4000000 in
set_option maxRecDepth 100000 in
theorem w_X0_isTwo_0 {K : Kx} {r9 : Int32} {L9 : LH} (hK : Ok K cX0_isTwo 1 RX0 1 25) (hZ : fw_isZ K) (hF : Fin K (some (.boolean)) (some (aI r9)) L9) {x0 : Int32} {L : LH} {mc ms : Nat} (h : f_X0_isTwo x0 L = some (r9, L9, mc, ms)) : AW K L mc ms 0 [(0, aI x0)] [] := by
  unfold f_X0_isTwo at h
  refine aw_iload_n hK 0 dX0_isTwo_0 rfl rfl ?_
  refine aw_i2l hK dX0_isTwo_1 ?_
  refine aw_lconst (v := 0) hK dX0_isTwo_2 rfl ?_
  refine aw_lconst (v := 1) hK dX0_isTwo_3 rfl ?_
  refine aw_callS_i (n := 3) hK (fun _ _ _ _ q => fw_czx hZ (ct_X0_in q)) (lw_S q310 q311 q94 q312) (by decide +kernel) (by decide) rfl rfl (Nat.le_of_ble_eq_true rfl) dX0_isTwo_4 h (fun v2 L1 _ _ h => ?_)
  obtain ⟨hbo, h⟩ := fw_bo_h h
  exact aw_zret hK hbo dX0_isTwo_7 h hF
theorem ct_X0_isTwo {x0 : Int32} {L : LH} {r9 : Int32} {L9 : LH} {mc ms : Nat} (h : f_X0_isTwo x0 L = some (r9, L9, mc, ms)) : fw_Cx yX0_isTwo (ws_ yX0_isTwo cX0_isTwo 1 (some (.boolean))) 1 25 [aI x0] L (some (aI r9)) L9 mc ms :=
  fun b1 b2 => ct_of (own := RX0) fw_ZX_ok (by decide +kernel) rfl (Nat.le_of_ble_eq_true rfl) (fun K hZ hK hF hini => w_X0_isTwo_0 hK ⟨b1, b2, hZ⟩ hF h)
def f_X0_isBeat (x0 : Int32) (L : LH) : Rs Int32 :=
  fw_cl (f_X0_in x0.toInt64 (0 : Int64) (23 : Int64) L) fun v2 L1 =>
  fw_bo v2 <|
  some (v2, L1, 0, 0)
set_option maxHeartbeats 4000000 in
set_option maxRecDepth 100000 in
theorem w_X0_isBeat_0 {K : Kx} {r9 : Int32} {L9 : LH} (hK : Ok K cX0_isBeat 1 RX0 1 25) (hZ : fw_isZ K) (hF : Fin K (some (.boolean)) (some (aI r9)) L9) {x0 : Int32} {L : LH} {mc ms : Nat} (h : f_X0_isBeat x0 L = some (r9, L9, mc, ms)) : AW K L mc ms 0 [(0, aI x0)] [] := by
  unfold f_X0_isBeat at h
  refine aw_iload_n hK 0 dX0_isBeat_0 rfl rfl ?_
  refine aw_i2l hK dX0_isBeat_1 ?_
  refine aw_lconst (v := 0) hK dX0_isBeat_2 rfl ?_
  refine aw_ldc2 (v := 23) hK q713 dX0_isBeat_3 ?_
  refine aw_callS_i (n := 3) hK (fun _ _ _ _ q => fw_czx hZ (ct_X0_in q)) (lw_S q310 q311 q94 q312) (by decide +kernel) (by decide) rfl rfl (Nat.le_of_ble_eq_true rfl) dX0_isBeat_6 h (fun v2 L1 _ _ h => ?_)
  obtain ⟨hbo, h⟩ := fw_bo_h h
  exact aw_zret hK hbo dX0_isBeat_9 h hF
theorem ct_X0_isBeat {x0 : Int32} {L : LH} {r9 : Int32} {L9 : LH} {mc ms : Nat} (h : f_X0_isBeat x0 L = some (r9, L9, mc, ms)) : fw_Cx yX0_isBeat (ws_ yX0_isBeat cX0_isBeat 1 (some (.boolean))) 1 25 [aI x0] L (some (aI r9)) L9 mc ms :=
  fun b1 b2 => ct_of (own := RX0) fw_ZX_ok (by decide +kernel) rfl (Nat.le_of_ble_eq_true rfl) (fun K hZ hK hF hini => w_X0_isBeat_0 hK ⟨b1, b2, hZ⟩ hF h)
def f_X0_mud (j0 : Nat) (x1 : Int32) (L : LH) : Rs Int32 :=
  fw_cl (f_X0_in x1.toInt64 (0 : Int64) (9 : Int64) L) fun v2 L1 =>
  if v2 = 0 then (
    some ((-nI 2), L1, 0, 0)
  ) else (
    fw_gI 1 L1 j0 4 fun v3 =>
    fw_pI 1 L1 j0 4 x1 fun L4 =>
    some (v3, L4, 0, 0)
  )
set_option maxHeartbeats 4000000 in
set_option maxRecDepth 100000 in
theorem w_X0_mud_0 {K : Kx} {r9 : Int32} {L9 : LH} (hK : Ok K cX0_mud 3 RX0 1 25) (hZ : fw_isZ K) (hF : Fin K (some (.int)) (some (aI r9)) L9) {j0 : Nat} {x1 : Int32} {L : LH} {mc ms : Nat} (h : f_X0_mud j0 x1 L = some (r9, L9, mc, ms)) : AW K L mc ms 0 [(0, aR (some j0)), (1, aI x1)] [] := by
  unfold f_X0_mud at h
  refine aw_iload_n hK 1 dX0_mud_0 rfl rfl ?_
  refine aw_i2l hK dX0_mud_1 ?_
  refine aw_lconst (v := 0) hK dX0_mud_2 rfl ?_
  refine aw_ldc2 (v := 9) hK q725 dX0_mud_3 ?_
  refine aw_callS_i (n := 3) hK (fun _ _ _ _ q => fw_czx hZ (ct_X0_in q)) (lw_S q310 q311 q94 q312) (by decide +kernel) (by decide) rfl rfl (Nat.le_of_ble_eq_true rfl) dX0_mud_6 h (fun v2 L1 _ _ h => ?_)
  refine aw_if_ne (tgt := 15) hK dX0_mud_9 (by decide) h (fun h => ?_) (fun h => ?_)
  · refine aw_aload_n hK 0 dX0_mud_15 rfl rfl ?_
    refine aw_gI hK fw_c0 4 (by decide) rfl q230 (fun _ h9 => h9) dX0_mud_16 h (fun v3 h => ?_)
    refine aw_istore_n (lv' := [(2, aI v3), (0, aR (some j0)), (1, aI x1)]) hK dX0_mud_19 rfl (by decide) rfl ?_
    refine aw_aload_n hK 1 dX0_mud_20 rfl rfl ?_
    refine aw_iload_n hK 2 dX0_mud_21 rfl rfl ?_
    refine aw_pI hK fw_c0 4 (by decide) rfl q230 (fun _ h9 => h9) rfl rfl rfl dX0_mud_22 h (fun L4 h => ?_)
    refine aw_iload_n hK 0 dX0_mud_25 rfl rfl ?_
    exact aw_iret hK dX0_mud_26 h hF
  · refine aw_bipush (v := (-nI 2)) hK dX0_mud_12 rfl ?_
    exact aw_iret hK dX0_mud_14 h hF
theorem ct_X0_mud {j0 : Nat} {x1 : Int32} {L : LH} {r9 : Int32} {L9 : LH} {mc ms : Nat} (h : f_X0_mud j0 x1 L = some (r9, L9, mc, ms)) : fw_Cx yX0_mud (ws_ yX0_mud cX0_mud 3 (some (.int))) 1 25 [aR (some j0), aI x1] L (some (aI r9)) L9 mc ms :=
  fun b1 b2 => ct_of (own := RX0) fw_ZX_ok (by decide +kernel) rfl (Nat.le_of_ble_eq_true rfl) (fun K hZ hK hF hini => w_X0_mud_0 hK ⟨b1, b2, hZ⟩ hF h)
def f_X0_isSheet (x0 : Int32) (L : LH) : Rs Int32 :=
  fw_cl (f_X0_in x0.toInt64 (0 : Int64) (3 : Int64) L) fun v2 L1 =>
  fw_bo v2 <|
  some (v2, L1, 0, 0)
set_option maxHeartbeats 4000000 in
set_option maxRecDepth 100000 in
theorem w_X0_isSheet_0 {K : Kx} {r9 : Int32} {L9 : LH} (hK : Ok K cX0_isSheet 1 RX0 1 25) (hZ : fw_isZ K) (hF : Fin K (some (.boolean)) (some (aI r9)) L9) {x0 : Int32} {L : LH} {mc ms : Nat} (h : f_X0_isSheet x0 L = some (r9, L9, mc, ms)) : AW K L mc ms 0 [(0, aI x0)] [] := by
  unfold f_X0_isSheet at h
  refine aw_iload_n hK 0 dX0_isSheet_0 rfl rfl ?_
  refine aw_i2l hK dX0_isSheet_1 ?_
  refine aw_lconst (v := 0) hK dX0_isSheet_2 rfl ?_
  refine aw_ldc2 (v := 3) hK q309 dX0_isSheet_3 ?_
  refine aw_callS_i (n := 3) hK (fun _ _ _ _ q => fw_czx hZ (ct_X0_in q)) (lw_S q310 q311 q94 q312) (by decide +kernel) (by decide) rfl rfl (Nat.le_of_ble_eq_true rfl) dX0_isSheet_6 h (fun v2 L1 _ _ h => ?_)
  obtain ⟨hbo, h⟩ := fw_bo_h h
  exact aw_zret hK hbo dX0_isSheet_9 h hF
theorem ct_X0_isSheet {x0 : Int32} {L : LH} {r9 : Int32} {L9 : LH} {mc ms : Nat} (h : f_X0_isSheet x0 L = some (r9, L9, mc, ms)) : fw_Cx yX0_isSheet (ws_ yX0_isSheet cX0_isSheet 1 (some (.boolean))) 1 25 [aI x0] L (some (aI r9)) L9 mc ms :=
  fun b1 b2 => ct_of (own := RX0) fw_ZX_ok (by decide +kernel) rfl (Nat.le_of_ble_eq_true rfl) (fun K hZ hK hF hini => w_X0_isSheet_0 hK ⟨b1, b2, hZ⟩ hF h)
def f_X0_met (j0 : Nat) (x1 : Int32) (L : LH) : Rs Int32 :=
  fw_pI 1 L j0 0 x1 fun L1 =>
  some (((-nI 10) - x1), L1, 0, 0)
set_option maxHeartbeats 4000000 in
set_option maxRecDepth 100000 in
theorem w_X0_met_0 {K : Kx} {r9 : Int32} {L9 : LH} (hK : Ok K cX0_met 2 RX0 0 0) (hZ : fw_isZ K) (hF : Fin K (some (.int)) (some (aI r9)) L9) {j0 : Nat} {x1 : Int32} {L : LH} {mc ms : Nat} (h : f_X0_met j0 x1 L = some (r9, L9, mc, ms)) : AW K L mc ms 0 [(0, aR (some j0)), (1, aI x1)] [] := by
  unfold f_X0_met at h
  refine aw_aload_n hK 0 dX0_met_0 rfl rfl ?_
  refine aw_iload_n hK 1 dX0_met_1 rfl rfl ?_
  refine aw_pI hK fw_c0 0 (by decide) rfl q226 (fun _ h9 => h9) rfl rfl rfl dX0_met_2 h (fun L1 h => ?_)
  refine aw_bipush (v := (-nI 10)) hK dX0_met_5 rfl ?_
  refine aw_iload_n hK 1 dX0_met_7 rfl rfl ?_
  refine aw_isub hK dX0_met_8 ?_
  exact aw_iret hK dX0_met_9 h hF
theorem ct_X0_met {j0 : Nat} {x1 : Int32} {L : LH} {r9 : Int32} {L9 : LH} {mc ms : Nat} (h : f_X0_met j0 x1 L = some (r9, L9, mc, ms)) : fw_Cx yX0_met (ws_ yX0_met cX0_met 2 (some (.int))) 0 0 [aR (some j0), aI x1] L (some (aI r9)) L9 mc ms :=
  fun b1 b2 => ct_of (own := RX0) fw_ZX_ok (by decide +kernel) rfl (Nat.le_of_ble_eq_true rfl) (fun K hZ hK hF hini => w_X0_met_0 hK ⟨b1, b2, hZ⟩ hF h)
def f_X0_isIn (x0 : Int32) (x1 : Int32) (L : LH) : Rs Int32 :=
  if ((x0 >>> (x1 &&& 31)) &&& (nI 1)) = (nI 1) then (
    some ((nI 1), L, 0, 0)
  ) else (
    some ((nI 0), L, 0, 0)
  )
set_option maxHeartbeats 4000000 in
set_option maxRecDepth 100000 in
theorem w_X0_isIn_0 {K : Kx} {r9 : Int32} {L9 : LH} (hK : Ok K cX0_isIn 2 RX0 0 0) (hZ : fw_isZ K) (hF : Fin K (some (.boolean)) (some (aI r9)) L9) {x0 : Int32} {x1 : Int32} {L : LH} {mc ms : Nat} (h : f_X0_isIn x0 x1 L = some (r9, L9, mc, ms)) : AW K L mc ms 0 [(0, aI x0), (1, aI x1)] [] := by
  unfold f_X0_isIn at h
  refine aw_iload_n hK 0 dX0_isIn_0 rfl rfl ?_
  refine aw_iload_n hK 1 dX0_isIn_1 rfl rfl ?_
  refine aw_ishr hK dX0_isIn_2 ?_
  refine aw_iconst (v := (nI 1)) hK dX0_isIn_3 rfl ?_
  refine aw_iand hK dX0_isIn_4 ?_
  refine aw_iconst (v := (nI 1)) hK dX0_isIn_5 rfl ?_
  refine aw_icmp_ne (tgt := 13) hK dX0_isIn_6 (by decide) h (fun h => ?_) (fun h => ?_)
  · refine aw_iconst (v := (nI 0)) hK dX0_isIn_13 rfl ?_
    exact aw_zret hK (by decide) dX0_isIn_14 h hF
  · refine aw_iconst (v := (nI 1)) hK dX0_isIn_9 rfl ?_
    refine aw_goto (tgt := 14) hK dX0_isIn_10 (by decide) ?_
    exact aw_zret hK (by decide) dX0_isIn_14 h hF
theorem ct_X0_isIn {x0 : Int32} {x1 : Int32} {L : LH} {r9 : Int32} {L9 : LH} {mc ms : Nat} (h : f_X0_isIn x0 x1 L = some (r9, L9, mc, ms)) : fw_Cx yX0_isIn (ws_ yX0_isIn cX0_isIn 2 (some (.boolean))) 0 0 [aI x0, aI x1] L (some (aI r9)) L9 mc ms :=
  fun b1 b2 => ct_of (own := RX0) fw_ZX_ok (by decide +kernel) rfl (Nat.le_of_ble_eq_true rfl) (fun K hZ hK hF hini => w_X0_isIn_0 hK ⟨b1, b2, hZ⟩ hF h)
def f_X0_isWon_17 (L : LH) : Rs Int32 :=
  some ((nI 1), L, 0, 0)
def f_X0_isWon (j0 : Nat) (L : LH) : Rs Int32 :=
  fw_gI 1 L j0 6 fun v1 =>
  if (nI 22) ≤ v1 then (
    f_X0_isWon_17 L
  ) else (
    fw_gI 1 L j0 6 fun v2 =>
    if (nI 2) < v2 then (
      some ((nI 0), L, 0, 0)
    ) else (
      f_X0_isWon_17 L
    )
  )
set_option maxHeartbeats 4000000 in
set_option maxRecDepth 100000 in
theorem w_X0_isWon_17 {K : Kx} {r9 : Int32} {L9 : LH} (hK : Ok K cX0_isWon 1 RX0 0 0) (hZ : fw_isZ K) (hF : Fin K (some (.boolean)) (some (aI r9)) L9)  {L : LH} {mc ms : Nat} (h : f_X0_isWon_17  L = some (r9, L9, mc, ms)) : AW K L mc ms 17 [] [] := by
  unfold f_X0_isWon_17 at h
  refine aw_iconst (v := (nI 1)) hK dX0_isWon_17 rfl ?_
  refine aw_goto (tgt := 22) hK dX0_isWon_18 (by decide) ?_
  exact aw_zret hK (by decide) dX0_isWon_22 h hF
set_option maxHeartbeats 4000000 in
set_option maxRecDepth 100000 in
theorem w_X0_isWon_0 {K : Kx} {r9 : Int32} {L9 : LH} (hK : Ok K cX0_isWon 1 RX0 0 0) (hZ : fw_isZ K) (hF : Fin K (some (.boolean)) (some (aI r9)) L9) {j0 : Nat} {L : LH} {mc ms : Nat} (h : f_X0_isWon j0 L = some (r9, L9, mc, ms)) : AW K L mc ms 0 [(0, aR (some j0))] [] := by
  unfold f_X0_isWon at h
  refine aw_aload_n hK 0 dX0_isWon_0 rfl rfl ?_
  refine aw_gI hK fw_c0 6 (by decide) rfl q232 (fun _ h9 => h9) dX0_isWon_1 h (fun v1 h => ?_)
  refine aw_bipush (v := (nI 22)) hK dX0_isWon_4 rfl ?_
  refine aw_icmp_ge (tgt := 17) hK dX0_isWon_6 (by decide) h (fun h => ?_) (fun h => ?_)
  · exact aw_sub [] rfl (w_X0_isWon_17 hK hZ hF h)
  · refine aw_aload_n hK 0 dX0_isWon_9 rfl rfl ?_
    refine aw_gI hK fw_c0 6 (by decide) rfl q232 (fun _ h9 => h9) dX0_isWon_10 h (fun v2 h => ?_)
    refine aw_iconst (v := (nI 2)) hK dX0_isWon_13 rfl ?_
    refine aw_icmp_gt (tgt := 21) hK dX0_isWon_14 (by decide) h (fun h => ?_) (fun h => ?_)
    · refine aw_iconst (v := (nI 0)) hK dX0_isWon_21 rfl ?_
      exact aw_zret hK (by decide) dX0_isWon_22 h hF
    · exact aw_sub [] rfl (w_X0_isWon_17 hK hZ hF h)
theorem ct_X0_isWon {j0 : Nat} {L : LH} {r9 : Int32} {L9 : LH} {mc ms : Nat} (h : f_X0_isWon j0 L = some (r9, L9, mc, ms)) : fw_Cx yX0_isWon (ws_ yX0_isWon cX0_isWon 1 (some (.boolean))) 0 0 [aR (some j0)] L (some (aI r9)) L9 mc ms :=
  fun b1 b2 => ct_of (own := RX0) fw_ZX_ok (by decide +kernel) rfl (Nat.le_of_ble_eq_true rfl) (fun K hZ hK hF hini => w_X0_isWon_0 hK ⟨b1, b2, hZ⟩ hF h)
def f_X0_rests_28 (j0 : Nat) (x1 : Int32) (rp2 : Option Nat) (L : LH) : Rs Int32 :=
  fw_gR 1 L j0 10 fun r1 =>
  fw_gR 1 L j0 10 fun r2 =>
  fw_nn r2 fun j3 =>
  fw_rd 100 L j3 x1 fun v4 =>
  fw_nn rp2 fun j6 =>
  fw_gR 6 L j6 0 fun r5 =>
  fw_nn r5 fun j9 =>
  fw_cl (fw_sd j9 (f_X10_gains j9 L) (f_X9_gains j9 L) (f_X10_gains j9 L)) fun v8 L7 =>
  fw_gI 6 L7 j6 2 fun v10 =>
  fw_nn r1 fun j11 =>
  fw_wr 100 L7 j11 x1 (fw_min (v4 + v8) v10) fun L12 =>
  some ((nI 0), L12, 0, 0)
def f_X0_rests (j0 : Nat) (x1 : Int32) (rp2 : Option Nat) (L : LH) : Rs Int32 :=
  fw_gR 1 L j0 15 fun r1 =>
  fw_nn r1 fun j2 =>
  fw_rd 100 L j2 (x1 / (nI 8)) fun v3 =>
  if x1 = v3 then (
    fw_nn rp2 fun j5 =>
    fw_gR 6 L j5 0 fun r4 =>
    fw_nn r4 fun j8 =>
    fw_cl (fw_sd j8 (f_X10_isAnchor j8 L) (f_X10_isAnchor j8 L) (f_X8_isAnchor j8 L)) fun v7 L6 =>
    if v7 = 0 then (
      f_X0_rests_28 j0 x1 (some j5) L6
    ) else (
      fw_gI 6 L6 j5 1 fun v9 =>
      some (v9, L6, 0, 0)
    )
  ) else (
    f_X0_rests_28 j0 x1 rp2 L
  )
set_option maxHeartbeats 4000000 in
set_option maxRecDepth 100000 in
theorem w_X0_rests_28 {K : Kx} {r9 : Int32} {L9 : LH} (hK : Ok K cX0_rests 3 RX0 2 40) (hZ : fw_isZ K) (hF : Fin K (some (.int)) (some (aI r9)) L9) {j0 : Nat} {x1 : Int32} {rp2 : Option Nat} {L : LH} {mc ms : Nat} (h : f_X0_rests_28 j0 x1 rp2 L = some (r9, L9, mc, ms)) : AW K L mc ms 28 [(0, aR (some j0)), (1, aI x1), (2, aR rp2)] [] := by
  unfold f_X0_rests_28 at h
  refine aw_aload_n hK 0 dX0_rests_28 rfl rfl ?_
  refine aw_gR hK fw_c0 10 (by decide) rfl q236 (fun _ h9 => h9) dX0_rests_29 h (fun r1 h => ?_)
  refine aw_iload_n hK 1 dX0_rests_32 rfl rfl ?_
  refine aw_aload_n hK 0 dX0_rests_33 rfl rfl ?_
  refine aw_gR hK fw_c0 10 (by decide) rfl q236 (fun _ h9 => h9) dX0_rests_34 h (fun r2 h => ?_)
  refine aw_iload_n hK 1 dX0_rests_37 rfl rfl ?_
  obtain _ | j3 := r2
  · exact (fw_nn_no h).elim
  replace h := fw_nn_so h
  refine aw_iald hK dX0_rests_38 h (fun v4 h => ?_)
  refine aw_aload_n hK 2 dX0_rests_39 rfl rfl ?_
  obtain _ | j6 := rp2
  · exact (fw_nn_no h).elim
  replace h := fw_nn_so h
  refine aw_gRN hK fw_c5 0 (by decide) rfl (fw_nsW hK hZ (w := Cond.fieldLinkNest "TugOfWar" 199 "TugOfWar$Puller" "sort" "LTugOfWar$Sort;" "TugOfWar") (by decide)) (fun _ h9 => h9) dX0_rests_40 h (fun r5 h => ?_)
  obtain _ | j9 := r5
  · exact (fw_nn_no h).elim
  replace h := fw_nn_so h
  refine aw_callQ_i hK (fun _ _ _ _ q => fw_sd_c q (fun e q => by subst e; exact rq_U (n := 0) hK (fw_rcvM hK hZ).1 (fw_czx hZ (ct_X10_gains q)) (lw_U q832 q835 q834 q833 q1722 q841) rfl (by decide +kernel) (by decide) rfl rfl (Nat.le_of_ble_eq_true rfl) dX0_rests_43) (fun e q => by subst e; exact rq_O (n := 0) hK (fw_rcvM hK hZ).2.1 (fw_czx hZ (ct_X9_gains q)) (lw_O q832 q835 q833 q837 q838 q1723 q839) q841 (by decide +kernel) (by decide) rfl rfl (Nat.le_of_ble_eq_true rfl) dX0_rests_43) (fun e q => by subst e; exact rq_U (n := 0) hK (fw_rcvM hK hZ).2.2 (fw_czx hZ (ct_X10_gains q)) (lw_U q832 q835 q836 q833 q1722 q841) rfl (by decide +kernel) (by decide) rfl rfl (Nat.le_of_ble_eq_true rfl) dX0_rests_43)) (fw_mt (n := 1) rfl) h (fun v8 L7 _ _ h => ?_)
  refine aw_iadd hK dX0_rests_46 ?_
  refine aw_aload_n hK 2 dX0_rests_47 rfl rfl ?_
  refine aw_gIN hK fw_c5 2 (by decide) rfl (fw_nsW hK hZ (w := Cond.fieldLinkNest "TugOfWar" 214 "TugOfWar$Puller" "wind" "I" "TugOfWar") (by decide)) (fun _ h9 => h9) dX0_rests_48 h (fun v10 h => ?_)
  refine aw_min hK q802 q498 q109 q499 dX0_rests_51 ⟨by decide, Nat.le_of_ble_eq_true rfl⟩ ?_
  obtain _ | j11 := r1
  · exact (fw_nn_no h).elim
  replace h := fw_nn_so h
  refine aw_iast hK dX0_rests_54 h (fun L12 h => ?_)
  refine aw_iconst (v := (nI 0)) hK dX0_rests_55 rfl ?_
  exact aw_iret hK dX0_rests_56 h hF
set_option maxHeartbeats 4000000 in
set_option maxRecDepth 100000 in
theorem w_X0_rests_0 {K : Kx} {r9 : Int32} {L9 : LH} (hK : Ok K cX0_rests 3 RX0 2 40) (hZ : fw_isZ K) (hF : Fin K (some (.int)) (some (aI r9)) L9) {j0 : Nat} {x1 : Int32} {rp2 : Option Nat} {L : LH} {mc ms : Nat} (h : f_X0_rests j0 x1 rp2 L = some (r9, L9, mc, ms)) : AW K L mc ms 0 [(0, aR (some j0)), (1, aI x1), (2, aR rp2)] [] := by
  unfold f_X0_rests at h
  refine aw_iload_n hK 1 dX0_rests_0 rfl rfl ?_
  refine aw_aload_n hK 0 dX0_rests_1 rfl rfl ?_
  refine aw_gR hK fw_c0 15 (by decide) rfl q241 (fun _ h9 => h9) dX0_rests_2 h (fun r1 h => ?_)
  refine aw_iload_n hK 1 dX0_rests_5 rfl rfl ?_
  refine aw_bipush (v := (nI 8)) hK dX0_rests_6 rfl ?_
  refine aw_idiv hK dX0_rests_8 (by decide) ?_
  obtain _ | j2 := r1
  · exact (fw_nn_no h).elim
  replace h := fw_nn_so h
  refine aw_iald hK dX0_rests_9 h (fun v3 h => ?_)
  refine aw_icmp_ne (tgt := 28) hK dX0_rests_10 (by decide) h (fun h => ?_) (fun h => ?_)
  · exact w_X0_rests_28 hK hZ hF h
  · refine aw_aload_n hK 2 dX0_rests_13 rfl rfl ?_
    obtain _ | j5 := rp2
    · exact (fw_nn_no h).elim
    replace h := fw_nn_so h
    refine aw_gRN hK fw_c5 0 (by decide) rfl (fw_nsW hK hZ (w := Cond.fieldLinkNest "TugOfWar" 199 "TugOfWar$Puller" "sort" "LTugOfWar$Sort;" "TugOfWar") (by decide)) (fun _ h9 => h9) dX0_rests_14 h (fun r4 h => ?_)
    obtain _ | j8 := r4
    · exact (fw_nn_no h).elim
    replace h := fw_nn_so h
    refine aw_callQ_i hK (fun _ _ _ _ q => fw_sd_c q (fun e q => by subst e; exact rq_U (n := 0) hK (fw_rcvM hK hZ).1 (fw_czx hZ (ct_X10_isAnchor q)) (lw_U q823 q826 q825 q824 q1722 q831) rfl (by decide +kernel) (by decide) rfl rfl (Nat.le_of_ble_eq_true rfl) dX0_rests_17) (fun e q => by subst e; exact rq_U (n := 0) hK (fw_rcvM hK hZ).2.1 (fw_czx hZ (ct_X10_isAnchor q)) (lw_U q823 q826 q830 q824 q1722 q831) rfl (by decide +kernel) (by decide) rfl rfl (Nat.le_of_ble_eq_true rfl) dX0_rests_17) (fun e q => by subst e; exact rq_O (n := 0) hK (fw_rcvM hK hZ).2.2 (fw_czx hZ (ct_X8_isAnchor q)) (lw_O q823 q826 q824 q827 q828 q1721 q829) q831 (by decide +kernel) (by decide) rfl rfl (Nat.le_of_ble_eq_true rfl) dX0_rests_17)) (fw_mt (n := 1) rfl) h (fun v7 L6 _ _ h => ?_)
    refine aw_if_eq (tgt := 28) hK dX0_rests_20 (by decide) h (fun h => ?_) (fun h => ?_)
    · exact w_X0_rests_28 hK hZ hF h
    · refine aw_aload_n hK 2 dX0_rests_23 rfl rfl ?_
      refine aw_gIN hK fw_c5 1 (by decide) rfl (fw_nsW hK hZ (w := Cond.fieldLinkNest "TugOfWar" 208 "TugOfWar$Puller" "weight" "I" "TugOfWar") (by decide)) (fun _ h9 => h9) dX0_rests_24 h (fun v9 h => ?_)
      exact aw_iret hK dX0_rests_27 h hF
theorem ct_X0_rests {j0 : Nat} {x1 : Int32} {rp2 : Option Nat} {L : LH} {r9 : Int32} {L9 : LH} {mc ms : Nat} (h : f_X0_rests j0 x1 rp2 L = some (r9, L9, mc, ms)) : fw_Cx yX0_rests (ws_ yX0_rests cX0_rests 3 (some (.int))) 2 40 [aR (some j0), aI x1, aR rp2] L (some (aI r9)) L9 mc ms :=
  fun b1 b2 => ct_of (own := RX0) fw_ZX_ok (by decide +kernel) rfl (Nat.le_of_ble_eq_true rfl) (fun K hZ hK hF hini => w_X0_rests_0 hK ⟨b1, b2, hZ⟩ hF h)
def f_X0_pulls_94 (j0 : Nat) (x1 : Int32) (rp2 : Option Nat) (sx0 : Int32) (L : LH) : Rs Int32 :=
  fw_nn rp2 fun j2 =>
  fw_gI 6 L j2 1 fun v1 =>
  fw_gR 1 L j0 15 fun r3 =>
  fw_nn r3 fun j4 =>
  fw_rd 100 L j4 (x1 / (nI 8)) fun v5 =>
  if x1 = v5 then (
    fw_gR 6 L j2 0 fun r6 =>
    fw_nn r6 fun j9 =>
    fw_cl (fw_sd j9 (f_X10_isAnchor j9 L) (f_X10_isAnchor j9 L) (f_X8_isAnchor j9 L)) fun v8 L7 =>
    if v8 = 0 then (
      some (((sx0 * v1) + (nI 0)), L7, 0, 0)
    ) else (
      some (((sx0 * v1) + (nI 2)), L7, 0, 0)
    )
  ) else (
    some (((sx0 * v1) + (nI 0)), L, 0, 0)
  )
def f_X0_pulls_71 (j0 : Nat) (x1 : Int32) (rp2 : Option Nat) (x4 : Int32) (sx0 : Int32) (L : LH) : Rs Int32 :=
  fw_gR 1 L j0 10 fun r1 =>
  fw_nn r1 fun j2 =>
  fw_rd 100 L j2 x1 fun v3 =>
  fw_wr 100 L j2 x1 (v3 - x4) fun L4 =>
  if sx0 = 0 then (
    f_X0_pulls_94 j0 x1 rp2 (nI 1) L4
  ) else (
    f_X0_pulls_94 j0 x1 rp2 (nI 2) L4
  )
def f_X0_pulls_70 (j0 : Nat) (x1 : Int32) (rp2 : Option Nat) (x4 : Int32) (L : LH) : Rs Int32 :=
  f_X0_pulls_71 j0 x1 rp2 x4 (nI 0) L
def f_X0_pulls_32 (j0 : Nat) (x1 : Int32) (rp2 : Option Nat) (x3 : Int32) (sx0 : Int32) (L : LH) : Rs Int32 :=
  fw_gR 1 L j0 10 fun r1 =>
  fw_nn r1 fun j2 =>
  fw_rd 100 L j2 x1 fun v3 =>
  if v3 = 0 then (
    some ((nI 0), L, 0, 0)
  ) else (
    if x3 = (nI 1) then (
      f_X0_pulls_70 j0 x1 rp2 sx0 L
    ) else (
      fw_gR 1 L j0 10 fun r4 =>
      fw_nn r4 fun j5 =>
      fw_rd 100 L j5 x1 fun v6 =>
      fw_nn rp2 fun j8 =>
      fw_gR 6 L j8 0 fun r7 =>
      fw_nn r7 fun j11 =>
      fw_cl (fw_sd j11 (f_X10_heaves j11 L) (f_X9_heaves j11 L) (f_X8_heaves j11 L)) fun v10 L9 =>
      if v6 < v10 then (
        f_X0_pulls_70 j0 x1 (some j8) sx0 L9
      ) else (
        f_X0_pulls_71 j0 x1 (some j8) sx0 (nI 1) L9
      )
    )
  )
def f_X0_pulls_21 (j0 : Nat) (x1 : Int32) (rp2 : Option Nat) (x3 : Int32) (L : LH) : Rs Int32 :=
  f_X0_pulls_32 j0 x1 rp2 x3 (nI 1) L
def f_X0_pulls (j0 : Nat) (x1 : Int32) (rp2 : Option Nat) (x3 : Int32) (L : LH) : Rs Int32 :=
  if x3 = (nI 1) then (
    f_X0_pulls_21 j0 x1 rp2 x3 L
  ) else (
    fw_gR 1 L j0 10 fun r1 =>
    fw_nn r1 fun j2 =>
    fw_rd 100 L j2 x1 fun v3 =>
    fw_nn rp2 fun j5 =>
    fw_gR 6 L j5 0 fun r4 =>
    fw_nn r4 fun j8 =>
    fw_cl (fw_sd j8 (f_X10_heaves j8 L) (f_X9_heaves j8 L) (f_X8_heaves j8 L)) fun v7 L6 =>
    if v7 ≤ v3 then (
      fw_gR 6 L6 j5 0 fun r9 =>
      fw_nn r9 fun j12 =>
      fw_cl (fw_sd j12 (f_X10_heaves j12 L6) (f_X9_heaves j12 L6) (f_X8_heaves j12 L6)) fun v11 L10 =>
      f_X0_pulls_32 j0 x1 (some j5) x3 v11 L10
    ) else (
      f_X0_pulls_21 j0 x1 (some j5) x3 L6
    )
  )
set_option maxHeartbeats 4000000 in
set_option maxRecDepth 100000 in
theorem w_X0_pulls_94 {K : Kx} {r9 : Int32} {L9 : LH} (hK : Ok K cX0_pulls 6 RX0 2 40) (hZ : fw_isZ K) (hF : Fin K (some (.int)) (some (aI r9)) L9) {j0 : Nat} {x1 : Int32} {rp2 : Option Nat} {sx0 : Int32} {L : LH} {mc ms : Nat} (h : f_X0_pulls_94 j0 x1 rp2 sx0 L = some (r9, L9, mc, ms)) : AW K L mc ms 94 [(0, aR (some j0)), (1, aI x1), (2, aR rp2)] [aI sx0] := by
  unfold f_X0_pulls_94 at h
  refine aw_aload_n hK 2 dX0_pulls_94 rfl rfl ?_
  obtain _ | j2 := rp2
  · exact (fw_nn_no h).elim
  replace h := fw_nn_so h
  refine aw_gIN hK fw_c5 1 (by decide) rfl (fw_nsW hK hZ (w := Cond.fieldLinkNest "TugOfWar" 208 "TugOfWar$Puller" "weight" "I" "TugOfWar") (by decide)) (fun _ h9 => h9) dX0_pulls_95 h (fun v1 h => ?_)
  refine aw_imul hK dX0_pulls_98 ?_
  refine aw_iload_n hK 1 dX0_pulls_99 rfl rfl ?_
  refine aw_aload_n hK 0 dX0_pulls_100 rfl rfl ?_
  refine aw_gR hK fw_c0 15 (by decide) rfl q241 (fun _ h9 => h9) dX0_pulls_101 h (fun r3 h => ?_)
  refine aw_iload_n hK 1 dX0_pulls_104 rfl rfl ?_
  refine aw_bipush (v := (nI 8)) hK dX0_pulls_105 rfl ?_
  refine aw_idiv hK dX0_pulls_107 (by decide) ?_
  obtain _ | j4 := r3
  · exact (fw_nn_no h).elim
  replace h := fw_nn_so h
  refine aw_iald hK dX0_pulls_108 h (fun v5 h => ?_)
  refine aw_icmp_ne (tgt := 126) hK dX0_pulls_109 (by decide) h (fun h => ?_) (fun h => ?_)
  · refine aw_iconst (v := (nI 0)) hK dX0_pulls_126 rfl ?_
    refine aw_iadd hK dX0_pulls_127 ?_
    exact aw_iret hK dX0_pulls_128 h hF
  · refine aw_aload_n hK 2 dX0_pulls_112 rfl rfl ?_
    refine aw_gRN hK fw_c5 0 (by decide) rfl (fw_nsW hK hZ (w := Cond.fieldLinkNest "TugOfWar" 199 "TugOfWar$Puller" "sort" "LTugOfWar$Sort;" "TugOfWar") (by decide)) (fun _ h9 => h9) dX0_pulls_113 h (fun r6 h => ?_)
    obtain _ | j9 := r6
    · exact (fw_nn_no h).elim
    replace h := fw_nn_so h
    refine aw_callQ_i hK (fun _ _ _ _ q => fw_sd_c q (fun e q => by subst e; exact rq_U (n := 0) hK (fw_rcvM hK hZ).1 (fw_czx hZ (ct_X10_isAnchor q)) (lw_U q823 q826 q825 q824 q1722 q831) rfl (by decide +kernel) (by decide) rfl rfl (Nat.le_of_ble_eq_true rfl) dX0_pulls_116) (fun e q => by subst e; exact rq_U (n := 0) hK (fw_rcvM hK hZ).2.1 (fw_czx hZ (ct_X10_isAnchor q)) (lw_U q823 q826 q830 q824 q1722 q831) rfl (by decide +kernel) (by decide) rfl rfl (Nat.le_of_ble_eq_true rfl) dX0_pulls_116) (fun e q => by subst e; exact rq_O (n := 0) hK (fw_rcvM hK hZ).2.2 (fw_czx hZ (ct_X8_isAnchor q)) (lw_O q823 q826 q824 q827 q828 q1721 q829) q831 (by decide +kernel) (by decide) rfl rfl (Nat.le_of_ble_eq_true rfl) dX0_pulls_116)) (fw_mt (n := 1) rfl) h (fun v8 L7 _ _ h => ?_)
    refine aw_if_eq (tgt := 126) hK dX0_pulls_119 (by decide) h (fun h => ?_) (fun h => ?_)
    · refine aw_iconst (v := (nI 0)) hK dX0_pulls_126 rfl ?_
      refine aw_iadd hK dX0_pulls_127 ?_
      exact aw_iret hK dX0_pulls_128 h hF
    · refine aw_iconst (v := (nI 2)) hK dX0_pulls_122 rfl ?_
      refine aw_goto (tgt := 127) hK dX0_pulls_123 (by decide) ?_
      refine aw_iadd hK dX0_pulls_127 ?_
      exact aw_iret hK dX0_pulls_128 h hF
set_option maxHeartbeats 4000000 in
set_option maxRecDepth 100000 in
theorem w_X0_pulls_71 {K : Kx} {r9 : Int32} {L9 : LH} (hK : Ok K cX0_pulls 6 RX0 2 40) (hZ : fw_isZ K) (hF : Fin K (some (.int)) (some (aI r9)) L9) {j0 : Nat} {x1 : Int32} {rp2 : Option Nat} {x4 : Int32} {sx0 : Int32} {L : LH} {mc ms : Nat} (h : f_X0_pulls_71 j0 x1 rp2 x4 sx0 L = some (r9, L9, mc, ms)) : AW K L mc ms 71 [(0, aR (some j0)), (1, aI x1), (2, aR rp2), (4, aI x4)] [aI sx0] := by
  unfold f_X0_pulls_71 at h
  refine aw_istore (lv' := [(5, aI sx0), (0, aR (some j0)), (1, aI x1), (2, aR rp2), (4, aI x4)]) hK dX0_pulls_71 (by decide) rfl ?_
  refine aw_aload_n hK 1 dX0_pulls_73 rfl rfl ?_
  refine aw_gR hK fw_c0 10 (by decide) rfl q236 (fun _ h9 => h9) dX0_pulls_74 h (fun r1 h => ?_)
  refine aw_iload_n hK 2 dX0_pulls_77 rfl rfl ?_
  refine aw_dup2 hK dX0_pulls_78 rfl rfl ?_
  obtain _ | j2 := r1
  · exact (fw_nn_no h).elim
  replace h := fw_nn_so h
  refine aw_iald hK dX0_pulls_79 h (fun v3 h => ?_)
  refine aw_iload hK 4 dX0_pulls_80 rfl ?_
  refine aw_isub hK dX0_pulls_82 ?_
  refine aw_iast hK dX0_pulls_83 h (fun L4 h => ?_)
  refine aw_iload hK 0 dX0_pulls_84 rfl ?_
  refine aw_if_eq (tgt := 93) hK dX0_pulls_86 (by decide) h (fun h => ?_) (fun h => ?_)
  · refine aw_iconst (v := (nI 1)) hK dX0_pulls_93 rfl ?_
    exact aw_sub [1, 2, 3] rfl (w_X0_pulls_94 hK hZ hF h)
  · refine aw_iconst (v := (nI 2)) hK dX0_pulls_89 rfl ?_
    refine aw_goto (tgt := 94) hK dX0_pulls_90 (by decide) ?_
    exact aw_sub [1, 2, 3] rfl (w_X0_pulls_94 hK hZ hF h)
set_option maxHeartbeats 4000000 in
set_option maxRecDepth 100000 in
theorem w_X0_pulls_70 {K : Kx} {r9 : Int32} {L9 : LH} (hK : Ok K cX0_pulls 6 RX0 2 40) (hZ : fw_isZ K) (hF : Fin K (some (.int)) (some (aI r9)) L9) {j0 : Nat} {x1 : Int32} {rp2 : Option Nat} {x4 : Int32} {L : LH} {mc ms : Nat} (h : f_X0_pulls_70 j0 x1 rp2 x4 L = some (r9, L9, mc, ms)) : AW K L mc ms 70 [(0, aR (some j0)), (1, aI x1), (2, aR rp2), (4, aI x4)] [] := by
  unfold f_X0_pulls_70 at h
  refine aw_iconst (v := (nI 0)) hK dX0_pulls_70 rfl ?_
  exact w_X0_pulls_71 hK hZ hF h
set_option maxHeartbeats 4000000 in
set_option maxRecDepth 100000 in
theorem w_X0_pulls_32 {K : Kx} {r9 : Int32} {L9 : LH} (hK : Ok K cX0_pulls 6 RX0 2 40) (hZ : fw_isZ K) (hF : Fin K (some (.int)) (some (aI r9)) L9) {j0 : Nat} {x1 : Int32} {rp2 : Option Nat} {x3 : Int32} {sx0 : Int32} {L : LH} {mc ms : Nat} (h : f_X0_pulls_32 j0 x1 rp2 x3 sx0 L = some (r9, L9, mc, ms)) : AW K L mc ms 32 [(0, aR (some j0)), (1, aI x1), (2, aR rp2), (3, aI x3)] [aI sx0] := by
  unfold f_X0_pulls_32 at h
  refine aw_istore (lv' := [(4, aI sx0), (0, aR (some j0)), (1, aI x1), (2, aR rp2), (3, aI x3)]) hK dX0_pulls_32 (by decide) rfl ?_
  refine aw_aload_n hK 1 dX0_pulls_34 rfl rfl ?_
  refine aw_gR hK fw_c0 10 (by decide) rfl q236 (fun _ h9 => h9) dX0_pulls_35 h (fun r1 h => ?_)
  refine aw_iload_n hK 2 dX0_pulls_38 rfl rfl ?_
  obtain _ | j2 := r1
  · exact (fw_nn_no h).elim
  replace h := fw_nn_so h
  refine aw_iald hK dX0_pulls_39 h (fun v3 h => ?_)
  refine aw_if_ne (tgt := 45) hK dX0_pulls_40 (by decide) h (fun h => ?_) (fun h => ?_)
  · refine aw_iload_n hK 4 dX0_pulls_45 rfl rfl ?_
    refine aw_iconst (v := (nI 1)) hK dX0_pulls_46 rfl ?_
    refine aw_icmp_eq (tgt := 70) hK dX0_pulls_47 (by decide) h (fun h => ?_) (fun h => ?_)
    · exact aw_sub [1, 2, 3, 0] rfl (w_X0_pulls_70 hK hZ hF h)
    · refine aw_aload_n hK 1 dX0_pulls_50 rfl rfl ?_
      refine aw_gR hK fw_c0 10 (by decide) rfl q236 (fun _ h9 => h9) dX0_pulls_51 h (fun r4 h => ?_)
      refine aw_iload_n hK 2 dX0_pulls_54 rfl rfl ?_
      obtain _ | j5 := r4
      · exact (fw_nn_no h).elim
      replace h := fw_nn_so h
      refine aw_iald hK dX0_pulls_55 h (fun v6 h => ?_)
      refine aw_aload_n hK 3 dX0_pulls_56 rfl rfl ?_
      obtain _ | j8 := rp2
      · exact (fw_nn_no h).elim
      replace h := fw_nn_so h
      refine aw_gRN hK fw_c5 0 (by decide) rfl (fw_nsW hK hZ (w := Cond.fieldLinkNest "TugOfWar" 199 "TugOfWar$Puller" "sort" "LTugOfWar$Sort;" "TugOfWar") (by decide)) (fun _ h9 => h9) dX0_pulls_57 h (fun r7 h => ?_)
      obtain _ | j11 := r7
      · exact (fw_nn_no h).elim
      replace h := fw_nn_so h
      refine aw_callQ_i hK (fun _ _ _ _ q => fw_sd_c q (fun e q => by subst e; exact rq_U (n := 0) hK (fw_rcvM hK hZ).1 (fw_czx hZ (ct_X10_heaves q)) (lw_U q846 q849 q848 q847 q1722 q854) rfl (by decide +kernel) (by decide) rfl rfl (Nat.le_of_ble_eq_true rfl) dX0_pulls_60) (fun e q => by subst e; exact rq_O (n := 0) hK (fw_rcvM hK hZ).2.1 (fw_czx hZ (ct_X9_heaves q)) (lw_O q846 q849 q847 q855 q856 q1723 q857) q854 (by decide +kernel) (by decide) rfl rfl (Nat.le_of_ble_eq_true rfl) dX0_pulls_60) (fun e q => by subst e; exact rq_O (n := 0) hK (fw_rcvM hK hZ).2.2 (fw_czx hZ (ct_X8_heaves q)) (lw_O q846 q849 q847 q850 q851 q1721 q852) q854 (by decide +kernel) (by decide) rfl rfl (Nat.le_of_ble_eq_true rfl) dX0_pulls_60)) (fw_mt (n := 1) rfl) h (fun v10 L9 _ _ h => ?_)
      refine aw_icmp_lt (tgt := 70) hK dX0_pulls_63 (by decide) h (fun h => ?_) (fun h => ?_)
      · exact aw_sub [1, 2, 3, 0] rfl (w_X0_pulls_70 hK hZ hF h)
      · refine aw_iconst (v := (nI 1)) hK dX0_pulls_66 rfl ?_
        refine aw_goto (tgt := 71) hK dX0_pulls_67 (by decide) ?_
        exact aw_sub [1, 2, 3, 0] rfl (w_X0_pulls_71 hK hZ hF h)
  · refine aw_iconst (v := (nI 0)) hK dX0_pulls_43 rfl ?_
    exact aw_iret hK dX0_pulls_44 h hF
set_option maxHeartbeats 4000000 in
set_option maxRecDepth 100000 in
theorem w_X0_pulls_21 {K : Kx} {r9 : Int32} {L9 : LH} (hK : Ok K cX0_pulls 6 RX0 2 40) (hZ : fw_isZ K) (hF : Fin K (some (.int)) (some (aI r9)) L9) {j0 : Nat} {x1 : Int32} {rp2 : Option Nat} {x3 : Int32} {L : LH} {mc ms : Nat} (h : f_X0_pulls_21 j0 x1 rp2 x3 L = some (r9, L9, mc, ms)) : AW K L mc ms 21 [(0, aR (some j0)), (1, aI x1), (2, aR rp2), (3, aI x3)] [] := by
  unfold f_X0_pulls_21 at h
  refine aw_iconst (v := (nI 1)) hK dX0_pulls_21 rfl ?_
  refine aw_goto (tgt := 32) hK dX0_pulls_22 (by decide) ?_
  exact w_X0_pulls_32 hK hZ hF h
set_option maxHeartbeats 4000000 in
set_option maxRecDepth 100000 in
theorem w_X0_pulls_0 {K : Kx} {r9 : Int32} {L9 : LH} (hK : Ok K cX0_pulls 6 RX0 2 40) (hZ : fw_isZ K) (hF : Fin K (some (.int)) (some (aI r9)) L9) {j0 : Nat} {x1 : Int32} {rp2 : Option Nat} {x3 : Int32} {L : LH} {mc ms : Nat} (h : f_X0_pulls j0 x1 rp2 x3 L = some (r9, L9, mc, ms)) : AW K L mc ms 0 [(0, aR (some j0)), (1, aI x1), (2, aR rp2), (3, aI x3)] [] := by
  unfold f_X0_pulls at h
  refine aw_iload_n hK 3 dX0_pulls_0 rfl rfl ?_
  refine aw_iconst (v := (nI 1)) hK dX0_pulls_1 rfl ?_
  refine aw_icmp_eq (tgt := 21) hK dX0_pulls_2 (by decide) h (fun h => ?_) (fun h => ?_)
  · exact w_X0_pulls_21 hK hZ hF h
  · refine aw_aload_n hK 0 dX0_pulls_5 rfl rfl ?_
    refine aw_gR hK fw_c0 10 (by decide) rfl q236 (fun _ h9 => h9) dX0_pulls_6 h (fun r1 h => ?_)
    refine aw_iload_n hK 1 dX0_pulls_9 rfl rfl ?_
    obtain _ | j2 := r1
    · exact (fw_nn_no h).elim
    replace h := fw_nn_so h
    refine aw_iald hK dX0_pulls_10 h (fun v3 h => ?_)
    refine aw_aload_n hK 2 dX0_pulls_11 rfl rfl ?_
    obtain _ | j5 := rp2
    · exact (fw_nn_no h).elim
    replace h := fw_nn_so h
    refine aw_gRN hK fw_c5 0 (by decide) rfl (fw_nsW hK hZ (w := Cond.fieldLinkNest "TugOfWar" 199 "TugOfWar$Puller" "sort" "LTugOfWar$Sort;" "TugOfWar") (by decide)) (fun _ h9 => h9) dX0_pulls_12 h (fun r4 h => ?_)
    obtain _ | j8 := r4
    · exact (fw_nn_no h).elim
    replace h := fw_nn_so h
    refine aw_callQ_i hK (fun _ _ _ _ q => fw_sd_c q (fun e q => by subst e; exact rq_U (n := 0) hK (fw_rcvM hK hZ).1 (fw_czx hZ (ct_X10_heaves q)) (lw_U q846 q849 q848 q847 q1722 q854) rfl (by decide +kernel) (by decide) rfl rfl (Nat.le_of_ble_eq_true rfl) dX0_pulls_15) (fun e q => by subst e; exact rq_O (n := 0) hK (fw_rcvM hK hZ).2.1 (fw_czx hZ (ct_X9_heaves q)) (lw_O q846 q849 q847 q855 q856 q1723 q857) q854 (by decide +kernel) (by decide) rfl rfl (Nat.le_of_ble_eq_true rfl) dX0_pulls_15) (fun e q => by subst e; exact rq_O (n := 0) hK (fw_rcvM hK hZ).2.2 (fw_czx hZ (ct_X8_heaves q)) (lw_O q846 q849 q847 q850 q851 q1721 q852) q854 (by decide +kernel) (by decide) rfl rfl (Nat.le_of_ble_eq_true rfl) dX0_pulls_15)) (fw_mt (n := 1) rfl) h (fun v7 L6 _ _ h => ?_)
    refine aw_icmp_ge (tgt := 25) hK dX0_pulls_18 (by decide) h (fun h => ?_) (fun h => ?_)
    · refine aw_aload_n hK 2 dX0_pulls_25 rfl rfl ?_
      refine aw_gRN hK fw_c5 0 (by decide) rfl (fw_nsW hK hZ (w := Cond.fieldLinkNest "TugOfWar" 199 "TugOfWar$Puller" "sort" "LTugOfWar$Sort;" "TugOfWar") (by decide)) (fun _ h9 => h9) dX0_pulls_26 h (fun r9 h => ?_)
      obtain _ | j12 := r9
      · exact (fw_nn_no h).elim
      replace h := fw_nn_so h
      refine aw_callQ_i hK (fun _ _ _ _ q => fw_sd_c q (fun e q => by subst e; exact rq_U (n := 0) hK (fw_rcvM hK hZ).1 (fw_czx hZ (ct_X10_heaves q)) (lw_U q846 q849 q848 q847 q1722 q854) rfl (by decide +kernel) (by decide) rfl rfl (Nat.le_of_ble_eq_true rfl) dX0_pulls_29) (fun e q => by subst e; exact rq_O (n := 0) hK (fw_rcvM hK hZ).2.1 (fw_czx hZ (ct_X9_heaves q)) (lw_O q846 q849 q847 q855 q856 q1723 q857) q854 (by decide +kernel) (by decide) rfl rfl (Nat.le_of_ble_eq_true rfl) dX0_pulls_29) (fun e q => by subst e; exact rq_O (n := 0) hK (fw_rcvM hK hZ).2.2 (fw_czx hZ (ct_X8_heaves q)) (lw_O q846 q849 q847 q850 q851 q1721 q852) q854 (by decide +kernel) (by decide) rfl rfl (Nat.le_of_ble_eq_true rfl) dX0_pulls_29)) (fw_mt (n := 1) rfl) h (fun v11 L10 _ _ h => ?_)
      exact w_X0_pulls_32 hK hZ hF h
    · exact w_X0_pulls_21 hK hZ hF h
theorem ct_X0_pulls {j0 : Nat} {x1 : Int32} {rp2 : Option Nat} {x3 : Int32} {L : LH} {r9 : Int32} {L9 : LH} {mc ms : Nat} (h : f_X0_pulls j0 x1 rp2 x3 L = some (r9, L9, mc, ms)) : fw_Cx yX0_pulls (ws_ yX0_pulls cX0_pulls 6 (some (.int))) 2 40 [aR (some j0), aI x1, aR rp2, aI x3] L (some (aI r9)) L9 mc ms :=
  fun b1 b2 => ct_of (own := RX0) fw_ZX_ok (by decide +kernel) rfl (Nat.le_of_ble_eq_true rfl) (fun K hZ hK hF hini => w_X0_pulls_0 hK ⟨b1, b2, hZ⟩ hF h)
def f_X0_atBy (j0 : Nat) (x1 : Int32) (x2 : Int32) (x3 : Int32) (L : LH) : Rs Int32 :=
  if x3 = 0 then (
    fw_gR 1 L j0 13 fun r6 =>
    fw_nn r6 fun j7 =>
    fw_rq 110 L j7 x1 fun r8 =>
    fw_nn r8 fun j9 =>
    fw_rd 100 L j9 x2 fun v10 =>
    some (v10, L, 0, 0)
  ) else (
    fw_gR 1 L j0 14 fun r1 =>
    fw_nn r1 fun j2 =>
    fw_rq 110 L j2 x1 fun r3 =>
    fw_nn r3 fun j4 =>
    fw_rd 100 L j4 x2 fun v5 =>
    some (v5, L, 0, 0)
  )
set_option maxHeartbeats 4000000 in
set_option maxRecDepth 100000 in
theorem w_X0_atBy_0 {K : Kx} {r9 : Int32} {L9 : LH} (hK : Ok K cX0_atBy 4 RX0 0 0) (hZ : fw_isZ K) (hF : Fin K (some (.int)) (some (aI r9)) L9) {j0 : Nat} {x1 : Int32} {x2 : Int32} {x3 : Int32} {L : LH} {mc ms : Nat} (h : f_X0_atBy j0 x1 x2 x3 L = some (r9, L9, mc, ms)) : AW K L mc ms 0 [(0, aR (some j0)), (1, aI x1), (2, aI x2), (3, aI x3)] [] := by
  unfold f_X0_atBy at h
  refine aw_iload_n hK 3 dX0_atBy_0 rfl rfl ?_
  refine aw_if_ne (tgt := 15) hK dX0_atBy_1 (by decide) h (fun h => ?_) (fun h => ?_)
  · refine aw_aload_n hK 0 dX0_atBy_15 rfl rfl ?_
    refine aw_gR hK fw_c0 14 (by decide) rfl q240 (fun _ h9 => h9) dX0_atBy_16 h (fun r1 h => ?_)
    refine aw_iload_n hK 1 dX0_atBy_19 rfl rfl ?_
    obtain _ | j2 := r1
    · exact (fw_nn_no h).elim
    replace h := fw_nn_so h
    refine aw_aald hK 10 (by decide) rfl dX0_atBy_20 h (fun r3 h => ?_)
    refine aw_iload_n hK 2 dX0_atBy_21 rfl rfl ?_
    obtain _ | j4 := r3
    · exact (fw_nn_no h).elim
    replace h := fw_nn_so h
    refine aw_iald hK dX0_atBy_22 h (fun v5 h => ?_)
    exact aw_iret hK dX0_atBy_23 h hF
  · refine aw_aload_n hK 0 dX0_atBy_4 rfl rfl ?_
    refine aw_gR hK fw_c0 13 (by decide) rfl q239 (fun _ h9 => h9) dX0_atBy_5 h (fun r6 h => ?_)
    refine aw_iload_n hK 1 dX0_atBy_8 rfl rfl ?_
    obtain _ | j7 := r6
    · exact (fw_nn_no h).elim
    replace h := fw_nn_so h
    refine aw_aald hK 10 (by decide) rfl dX0_atBy_9 h (fun r8 h => ?_)
    refine aw_iload_n hK 2 dX0_atBy_10 rfl rfl ?_
    obtain _ | j9 := r8
    · exact (fw_nn_no h).elim
    replace h := fw_nn_so h
    refine aw_iald hK dX0_atBy_11 h (fun v10 h => ?_)
    refine aw_goto (tgt := 23) hK dX0_atBy_12 (by decide) ?_
    exact aw_iret hK dX0_atBy_23 h hF
theorem ct_X0_atBy {j0 : Nat} {x1 : Int32} {x2 : Int32} {x3 : Int32} {L : LH} {r9 : Int32} {L9 : LH} {mc ms : Nat} (h : f_X0_atBy j0 x1 x2 x3 L = some (r9, L9, mc, ms)) : fw_Cx yX0_atBy (ws_ yX0_atBy cX0_atBy 4 (some (.int))) 0 0 [aR (some j0), aI x1, aI x2, aI x3] L (some (aI r9)) L9 mc ms :=
  fun b1 b2 => ct_of (own := RX0) fw_ZX_ok (by decide +kernel) rfl (Nat.le_of_ble_eq_true rfl) (fun K hZ hK hF hini => w_X0_atBy_0 hK ⟨b1, b2, hZ⟩ hF h)
def f_X0_winner (j0 : Nat) (L : LH) : Rs Int32 :=
  fw_gI 1 L j0 6 fun v1 =>
  if v1 < (nI 22) then (
    fw_gI 1 L j0 6 fun v2 =>
    if (nI 2) < v2 then (
      some ((-nI 1), L, 0, 0)
    ) else (
      some ((nI 1), L, 0, 0)
    )
  ) else (
    some ((nI 0), L, 0, 0)
  )
set_option maxHeartbeats 4000000 in
set_option maxRecDepth 100000 in
theorem w_X0_winner_0 {K : Kx} {r9 : Int32} {L9 : LH} (hK : Ok K cX0_winner 1 RX0 0 0) (hZ : fw_isZ K) (hF : Fin K (some (.int)) (some (aI r9)) L9) {j0 : Nat} {L : LH} {mc ms : Nat} (h : f_X0_winner j0 L = some (r9, L9, mc, ms)) : AW K L mc ms 0 [(0, aR (some j0))] [] := by
  unfold f_X0_winner at h
  refine aw_aload_n hK 0 dX0_winner_0 rfl rfl ?_
  refine aw_gI hK fw_c0 6 (by decide) rfl q232 (fun _ h9 => h9) dX0_winner_1 h (fun v1 h => ?_)
  refine aw_bipush (v := (nI 22)) hK dX0_winner_4 rfl ?_
  refine aw_icmp_lt (tgt := 13) hK dX0_winner_6 (by decide) h (fun h => ?_) (fun h => ?_)
  · refine aw_aload_n hK 0 dX0_winner_13 rfl rfl ?_
    refine aw_gI hK fw_c0 6 (by decide) rfl q232 (fun _ h9 => h9) dX0_winner_14 h (fun v2 h => ?_)
    refine aw_iconst (v := (nI 2)) hK dX0_winner_17 rfl ?_
    refine aw_icmp_gt (tgt := 25) hK dX0_winner_18 (by decide) h (fun h => ?_) (fun h => ?_)
    · refine aw_iconst (v := (-nI 1)) hK dX0_winner_25 rfl ?_
      exact aw_iret hK dX0_winner_26 h hF
    · refine aw_iconst (v := (nI 1)) hK dX0_winner_21 rfl ?_
      refine aw_goto (tgt := 26) hK dX0_winner_22 (by decide) ?_
      exact aw_iret hK dX0_winner_26 h hF
  · refine aw_iconst (v := (nI 0)) hK dX0_winner_9 rfl ?_
    refine aw_goto (tgt := 26) hK dX0_winner_10 (by decide) ?_
    exact aw_iret hK dX0_winner_26 h hF
theorem ct_X0_winner {j0 : Nat} {L : LH} {r9 : Int32} {L9 : LH} {mc ms : Nat} (h : f_X0_winner j0 L = some (r9, L9, mc, ms)) : fw_Cx yX0_winner (ws_ yX0_winner cX0_winner 1 (some (.int))) 0 0 [aR (some j0)] L (some (aI r9)) L9 mc ms :=
  fun b1 b2 => ct_of (own := RX0) fw_ZX_ok (by decide +kernel) rfl (Nat.le_of_ble_eq_true rfl) (fun K hZ hK hF hini => w_X0_winner_0 hK ⟨b1, b2, hZ⟩ hF h)
def f_X0_furthestBy_42 (rec5 : Nat → Int32 → Int32 → Int32 → LH → Rs Int32) (j0 : Nat) (x1 : Int32) (x3 : Int32) (sx0 : Int32) (L : LH) : Rs Int32 :=
  rec5 j0 x1 sx0 (x3 + (nI 1)) L
def f_X0_furthestBy_5 : Nat → Nat → Int32 → Int32 → Int32 → LH → Rs Int32
  | 0, _, _, _, _, _ => none
  | n + 1, j0, x1, x2, x3, L =>
    if (nI 24) ≤ x3 then (
      some (x2, L, 0, 0)
    ) else (
      if x1 = 0 then (
        fw_gR 1 L j0 12 fun r6 =>
        fw_nn r6 fun j7 =>
        fw_rq 110 L j7 x3 fun r8 =>
        fw_nn r8 fun j9 =>
        fw_rd 100 L j9 (nI 0) fun v10 =>
        f_X0_furthestBy_42 (f_X0_furthestBy_5 n) j0 x1 x3 (fw_max v10 x2) L
      ) else (
        fw_gR 1 L j0 12 fun r1 =>
        fw_nn r1 fun j2 =>
        fw_rq 110 L j2 x3 fun r3 =>
        fw_nn r3 fun j4 =>
        fw_rd 100 L j4 (nI 0) fun v5 =>
        f_X0_furthestBy_42 (f_X0_furthestBy_5 n) j0 x1 x3 (fw_min v5 x2) L
      )
    )
def f_X0_furthestBy (j0 : Nat) (x1 : Int32) (L : LH) : Rs Int32 :=
  f_X0_furthestBy_5 fw_fuel j0 x1 (nI 12) (nI 0) L
set_option maxHeartbeats 4000000 in
set_option maxRecDepth 100000 in
theorem w_X0_furthestBy_42 {K : Kx} {r9 : Int32} {L9 : LH} (hK : Ok K cX0_furthestBy 4 RX0 1 24) (hZ : fw_isZ K) (hF : Fin K (some (.int)) (some (aI r9)) L9) {rec5 : Nat → Int32 → Int32 → Int32 → LH → Rs Int32} (hrec5 : ∀ {j0 : Nat} {x1 : Int32} {x2 : Int32} {x3 : Int32} {L : LH} {mc ms : Nat}, rec5 j0 x1 x2 x3 L = some (r9, L9, mc, ms) → AW K L mc ms 5 [(0, aR (some j0)), (1, aI x1), (2, aI x2), (3, aI x3)] []) {j0 : Nat} {x1 : Int32} {x3 : Int32} {sx0 : Int32} {L : LH} {mc ms : Nat} (h : f_X0_furthestBy_42 rec5 j0 x1 x3 sx0 L = some (r9, L9, mc, ms)) : AW K L mc ms 42 [(0, aR (some j0)), (1, aI x1), (3, aI x3)] [aI sx0] := by
  unfold f_X0_furthestBy_42 at h
  refine aw_istore_n (lv' := [(2, aI sx0), (0, aR (some j0)), (1, aI x1), (3, aI x3)]) hK dX0_furthestBy_42 rfl (by decide) rfl ?_
  refine aw_iinc (v := (x3 + (nI 1))) (lv' := [(3, aI (x3 + (nI 1))), (2, aI sx0), (0, aR (some j0)), (1, aI x1)]) hK 3 dX0_furthestBy_43 rfl rfl (by decide) rfl ?_
  refine aw_goto (tgt := 5) hK dX0_furthestBy_46 (by decide) ?_
  exact aw_sub [2, 3, 1, 0] rfl (hrec5 h)
set_option maxHeartbeats 4000000 in
set_option maxRecDepth 100000 in
theorem w_X0_furthestBy_5 {K : Kx} {r9 : Int32} {L9 : LH} (hK : Ok K cX0_furthestBy 4 RX0 1 24) (hZ : fw_isZ K) (hF : Fin K (some (.int)) (some (aI r9)) L9) : ∀ {n : Nat} {j0 : Nat} {x1 : Int32} {x2 : Int32} {x3 : Int32} {L : LH} {mc ms : Nat}, f_X0_furthestBy_5 n j0 x1 x2 x3 L = some (r9, L9, mc, ms) → AW K L mc ms 5 [(0, aR (some j0)), (1, aI x1), (2, aI x2), (3, aI x3)] [] := by
  intro n
  induction n with
  | zero =>
    intro j0 x1 x2 x3 L mc ms h
    have h : (none : Rs Int32) = some (r9, L9, mc, ms) := h
    cases h
  | succ n ih =>
    intro j0 x1 x2 x3 L mc ms h
    unfold f_X0_furthestBy_5 at h
    refine aw_iload_n hK 3 dX0_furthestBy_5 rfl rfl ?_
    refine aw_bipush (v := (nI 24)) hK dX0_furthestBy_6 rfl ?_
    refine aw_icmp_ge (tgt := 49) hK dX0_furthestBy_8 (by decide) h (fun h => ?_) (fun h => ?_)
    · refine aw_iload_n hK 2 dX0_furthestBy_49 rfl rfl ?_
      exact aw_iret hK dX0_furthestBy_50 h hF
    · refine aw_iload_n hK 1 dX0_furthestBy_11 rfl rfl ?_
      refine aw_if_ne (tgt := 30) hK dX0_furthestBy_12 (by decide) h (fun h => ?_) (fun h => ?_)
      · refine aw_aload_n hK 0 dX0_furthestBy_30 rfl rfl ?_
        refine aw_gR hK fw_c0 12 (by decide) rfl q238 (fun _ h9 => h9) dX0_furthestBy_31 h (fun r1 h => ?_)
        refine aw_iload_n hK 3 dX0_furthestBy_34 rfl rfl ?_
        obtain _ | j2 := r1
        · exact (fw_nn_no h).elim
        replace h := fw_nn_so h
        refine aw_aald hK 10 (by decide) rfl dX0_furthestBy_35 h (fun r3 h => ?_)
        refine aw_iconst (v := (nI 0)) hK dX0_furthestBy_36 rfl ?_
        obtain _ | j4 := r3
        · exact (fw_nn_no h).elim
        replace h := fw_nn_so h
        refine aw_iald hK dX0_furthestBy_37 h (fun v5 h => ?_)
        refine aw_iload_n hK 2 dX0_furthestBy_38 rfl rfl ?_
        refine aw_min hK q802 q498 q109 q499 dX0_furthestBy_39 ⟨by decide, Nat.le_of_ble_eq_true rfl⟩ ?_
        exact aw_sub [0, 1, 3] rfl (w_X0_furthestBy_42 hK hZ hF (fun h => ih h) h)
      · refine aw_aload_n hK 0 dX0_furthestBy_15 rfl rfl ?_
        refine aw_gR hK fw_c0 12 (by decide) rfl q238 (fun _ h9 => h9) dX0_furthestBy_16 h (fun r6 h => ?_)
        refine aw_iload_n hK 3 dX0_furthestBy_19 rfl rfl ?_
        obtain _ | j7 := r6
        · exact (fw_nn_no h).elim
        replace h := fw_nn_so h
        refine aw_aald hK 10 (by decide) rfl dX0_furthestBy_20 h (fun r8 h => ?_)
        refine aw_iconst (v := (nI 0)) hK dX0_furthestBy_21 rfl ?_
        obtain _ | j9 := r8
        · exact (fw_nn_no h).elim
        replace h := fw_nn_so h
        refine aw_iald hK dX0_furthestBy_22 h (fun v10 h => ?_)
        refine aw_iload_n hK 2 dX0_furthestBy_23 rfl rfl ?_
        refine aw_max hK q898 q495 q109 q496 dX0_furthestBy_24 ⟨by decide, Nat.le_of_ble_eq_true rfl⟩ ?_
        refine aw_goto (tgt := 42) hK dX0_furthestBy_27 (by decide) ?_
        exact aw_sub [0, 1, 3] rfl (w_X0_furthestBy_42 hK hZ hF (fun h => ih h) h)
set_option maxHeartbeats 4000000 in
set_option maxRecDepth 100000 in
theorem w_X0_furthestBy_0 {K : Kx} {r9 : Int32} {L9 : LH} (hK : Ok K cX0_furthestBy 4 RX0 1 24) (hZ : fw_isZ K) (hF : Fin K (some (.int)) (some (aI r9)) L9) {j0 : Nat} {x1 : Int32} {L : LH} {mc ms : Nat} (h : f_X0_furthestBy j0 x1 L = some (r9, L9, mc, ms)) : AW K L mc ms 0 [(0, aR (some j0)), (1, aI x1)] [] := by
  unfold f_X0_furthestBy at h
  refine aw_bipush (v := (nI 12)) hK dX0_furthestBy_0 rfl ?_
  refine aw_istore_n (lv' := [(2, aI (nI 12)), (0, aR (some j0)), (1, aI x1)]) hK dX0_furthestBy_2 rfl (by decide) rfl ?_
  refine aw_iconst (v := (nI 0)) hK dX0_furthestBy_3 rfl ?_
  refine aw_istore_n (lv' := [(3, aI (nI 0)), (2, aI (nI 12)), (0, aR (some j0)), (1, aI x1)]) hK dX0_furthestBy_4 rfl (by decide) rfl ?_
  exact aw_sub [2, 3, 1, 0] rfl (w_X0_furthestBy_5 hK hZ hF h)
theorem ct_X0_furthestBy {j0 : Nat} {x1 : Int32} {L : LH} {r9 : Int32} {L9 : LH} {mc ms : Nat} (h : f_X0_furthestBy j0 x1 L = some (r9, L9, mc, ms)) : fw_Cx yX0_furthestBy (ws_ yX0_furthestBy cX0_furthestBy 4 (some (.int))) 1 24 [aR (some j0), aI x1] L (some (aI r9)) L9 mc ms :=
  fun b1 b2 => ct_of (own := RX0) fw_ZX_ok (by decide +kernel) rfl (Nat.le_of_ble_eq_true rfl) (fun K hZ hK hF hini => w_X0_furthestBy_0 hK ⟨b1, b2, hZ⟩ hF h)
def f_X0_far (j0 : Nat) (x1 : Int32) (L : LH) : Rs Int32 :=
  if x1 = 0 then (
    fw_gI 1 L j0 6 fun v2 =>
    some (v2, L, 0, 0)
  ) else (
    fw_gI 1 L j0 6 fun v1 =>
    some (((nI 24) - v1), L, 0, 0)
  )
set_option maxHeartbeats 4000000 in
set_option maxRecDepth 100000 in
theorem w_X0_far_0 {K : Kx} {r9 : Int32} {L9 : LH} (hK : Ok K cX0_far 2 RX0 0 0) (hZ : fw_isZ K) (hF : Fin K (some (.int)) (some (aI r9)) L9) {j0 : Nat} {x1 : Int32} {L : LH} {mc ms : Nat} (h : f_X0_far j0 x1 L = some (r9, L9, mc, ms)) : AW K L mc ms 0 [(0, aR (some j0)), (1, aI x1)] [] := by
  unfold f_X0_far at h
  refine aw_iload_n hK 1 dX0_far_0 rfl rfl ?_
  refine aw_if_ne (tgt := 11) hK dX0_far_1 (by decide) h (fun h => ?_) (fun h => ?_)
  · refine aw_bipush (v := (nI 24)) hK dX0_far_11 rfl ?_
    refine aw_aload_n hK 0 dX0_far_13 rfl rfl ?_
    refine aw_gI hK fw_c0 6 (by decide) rfl q232 (fun _ h9 => h9) dX0_far_14 h (fun v1 h => ?_)
    refine aw_isub hK dX0_far_17 ?_
    exact aw_iret hK dX0_far_18 h hF
  · refine aw_aload_n hK 0 dX0_far_4 rfl rfl ?_
    refine aw_gI hK fw_c0 6 (by decide) rfl q232 (fun _ h9 => h9) dX0_far_5 h (fun v2 h => ?_)
    refine aw_goto (tgt := 18) hK dX0_far_8 (by decide) ?_
    exact aw_iret hK dX0_far_18 h hF
theorem ct_X0_far {j0 : Nat} {x1 : Int32} {L : LH} {r9 : Int32} {L9 : LH} {mc ms : Nat} (h : f_X0_far j0 x1 L = some (r9, L9, mc, ms)) : fw_Cx yX0_far (ws_ yX0_far cX0_far 2 (some (.int))) 0 0 [aR (some j0), aI x1] L (some (aI r9)) L9 mc ms :=
  fun b1 b2 => ct_of (own := RX0) fw_ZX_ok (by decide +kernel) rfl (Nat.le_of_ble_eq_true rfl) (fun K hZ hK hF hini => w_X0_far_0 hK ⟨b1, b2, hZ⟩ hF h)
def f_X0_place (x0 : Int32) (x1 : Int32) (L : LH) : Rs Int32 :=
  if x0 = 0 then (
    some (x1, L, 0, 0)
  ) else (
    some (((nI 24) - x1), L, 0, 0)
  )
set_option maxHeartbeats 4000000 in
set_option maxRecDepth 100000 in
theorem w_X0_place_0 {K : Kx} {r9 : Int32} {L9 : LH} (hK : Ok K cX0_place 2 RX0 0 0) (hZ : fw_isZ K) (hF : Fin K (some (.int)) (some (aI r9)) L9) {x0 : Int32} {x1 : Int32} {L : LH} {mc ms : Nat} (h : f_X0_place x0 x1 L = some (r9, L9, mc, ms)) : AW K L mc ms 0 [(0, aI x0), (1, aI x1)] [] := by
  unfold f_X0_place at h
  refine aw_iload_n hK 0 dX0_place_0 rfl rfl ?_
  refine aw_if_ne (tgt := 8) hK dX0_place_1 (by decide) h (fun h => ?_) (fun h => ?_)
  · refine aw_bipush (v := (nI 24)) hK dX0_place_8 rfl ?_
    refine aw_iload_n hK 1 dX0_place_10 rfl rfl ?_
    refine aw_isub hK dX0_place_11 ?_
    exact aw_iret hK dX0_place_12 h hF
  · refine aw_iload_n hK 1 dX0_place_4 rfl rfl ?_
    refine aw_goto (tgt := 12) hK dX0_place_5 (by decide) ?_
    exact aw_iret hK dX0_place_12 h hF
theorem ct_X0_place {x0 : Int32} {x1 : Int32} {L : LH} {r9 : Int32} {L9 : LH} {mc ms : Nat} (h : f_X0_place x0 x1 L = some (r9, L9, mc, ms)) : fw_Cx yX0_place (ws_ yX0_place cX0_place 2 (some (.int))) 0 0 [aI x0, aI x1] L (some (aI r9)) L9 mc ms :=
  fun b1 b2 => ct_of (own := RX0) fw_ZX_ok (by decide +kernel) rfl (Nat.le_of_ble_eq_true rfl) (fun K hZ hK hF hini => w_X0_place_0 hK ⟨b1, b2, hZ⟩ hF h)
def f_X0_forget (j0 : Nat) (L : LH) : Rs Int32 :=
  fw_gR 1 L j0 20 fun r1 =>
  fw_nn r1 fun j4 =>
  fw_is 5 L j4 <|
  fw_cl (f_J2_size j4 L) fun v3 L2 =>
  fw_gR 1 L2 j0 20 fun r5 =>
  fw_nn r5 fun j7 =>
  fw_is 5 L2 j7 <|
  fw_cl (f_J2_clear j7 L2) fun _ L6 =>
  some (v3, L6, 0, 0)
set_option maxHeartbeats 4000000 in
set_option maxRecDepth 100000 in
theorem w_X0_forget_0 {K : Kx} {r9 : Int32} {L9 : LH} (hK : Ok K cX0_forget 2 RX0 1 23) (hZ : fw_isZ K) (hF : Fin K (some (.int)) (some (aI r9)) L9) {j0 : Nat} {L : LH} {mc ms : Nat} (h : f_X0_forget j0 L = some (r9, L9, mc, ms)) : AW K L mc ms 0 [(0, aR (some j0))] [] := by
  unfold f_X0_forget at h
  refine aw_aload_n hK 0 dX0_forget_0 rfl rfl ?_
  refine aw_gR hK fw_c0 20 (by decide) rfl q246 (fun _ h9 => h9) dX0_forget_1 h (fun r1 h => ?_)
  obtain _ | j4 := r1
  · exact (fw_nn_no h).elim
  replace h := fw_nn_so h
  obtain ⟨hj, h⟩ := fw_is_h h
  refine aw_callV_i (n := 0) hK fw_c4 hj (fun _ _ _ _ q => fw_czx hZ (ct_J2_size q)) (lw_V q730 q385 q386 q99 q387) (by decide +kernel) (by decide) rfl rfl (Nat.le_of_ble_eq_true rfl) dX0_forget_4 h (fun v3 L2 _ _ h => ?_)
  refine aw_istore_n (lv' := [(1, aI v3), (0, aR (some j0))]) hK dX0_forget_7 rfl (by decide) rfl ?_
  refine aw_aload_n hK 1 dX0_forget_8 rfl rfl ?_
  refine aw_gR hK fw_c0 20 (by decide) rfl q246 (fun _ h9 => h9) dX0_forget_9 h (fun r5 h => ?_)
  obtain _ | j7 := r5
  · exact (fw_nn_no h).elim
  replace h := fw_nn_so h
  obtain ⟨hj, h⟩ := fw_is_h h
  refine aw_callV_v (n := 0) hK fw_c4 hj (fun _ _ _ _ q => fw_czx hZ (ct_J2_clear q)) (lw_V q976 q368 q369 q99 q370) (by decide +kernel) (by decide) rfl rfl (Nat.le_of_ble_eq_true rfl) dX0_forget_12 h (fun _ L6 _ _ h => ?_)
  refine aw_iload_n hK 0 dX0_forget_15 rfl rfl ?_
  exact aw_iret hK dX0_forget_16 h hF
theorem ct_X0_forget {j0 : Nat} {L : LH} {r9 : Int32} {L9 : LH} {mc ms : Nat} (h : f_X0_forget j0 L = some (r9, L9, mc, ms)) : fw_Cx yX0_forget (ws_ yX0_forget cX0_forget 2 (some (.int))) 1 23 [aR (some j0)] L (some (aI r9)) L9 mc ms :=
  fun b1 b2 => ct_of (own := RX0) fw_ZX_ok (by decide +kernel) rfl (Nat.le_of_ble_eq_true rfl) (fun K hZ hK hF hini => w_X0_forget_0 hK ⟨b1, b2, hZ⟩ hF h)
def f_X0_alike_71 (rec5 : Nat → Int32 → Int32 → Int32 → Int32 → LH → Rs Int32) (rec18 : Nat → Int32 → Int32 → Int32 → Int32 → Int32 → Int32 → LH → Rs Int32) (j0 : Nat) (x1 : Int32) (x2 : Int32) (x3 : Int32) (x4 : Int32) (x6 : Int32) (sx0 : Int32) (sx1 : Int32) (L : LH) : Rs Int32 :=
  rec18 j0 x1 x2 x3 x4 (sx1 + sx0) (x6 + (nI 1)) L
def f_X0_alike_70 (rec5 : Nat → Int32 → Int32 → Int32 → Int32 → LH → Rs Int32) (rec18 : Nat → Int32 → Int32 → Int32 → Int32 → Int32 → Int32 → LH → Rs Int32) (j0 : Nat) (x1 : Int32) (x2 : Int32) (x3 : Int32) (x4 : Int32) (x6 : Int32) (sx0 : Int32) (L : LH) : Rs Int32 :=
  f_X0_alike_71 rec5 rec18 j0 x1 x2 x3 x4 x6 (nI 0) sx0 L
def f_X0_alike_18 (rec5 : Nat → Int32 → Int32 → Int32 → Int32 → LH → Rs Int32) : Nat → Nat → Int32 → Int32 → Int32 → Int32 → Int32 → Int32 → LH → Rs Int32
  | 0, _, _, _, _, _, _, _, _ => none
  | n + 1, j0, x1, x2, x3, x4, x5, x6, L =>
    if (nI 9) < x6 then (
      rec5 j0 x1 x2 (fw_max x5 x3) (x4 + (nI 1)) L
    ) else (
      fw_cl (f_X0_isIn x1 x4 L) fun v2 L1 =>
      if v2 = 0 then (
        f_X0_alike_70 rec5 (f_X0_alike_18 rec5 n) j0 x1 x2 x3 x4 x6 x5 L1
      ) else (
        fw_cl (f_X0_isIn x1 x6 L1) fun v4 L3 =>
        if v4 = 0 then (
          f_X0_alike_70 rec5 (f_X0_alike_18 rec5 n) j0 x1 x2 x3 x4 x6 x5 L3
        ) else (
          fw_gR 1 L3 j0 21 fun r5 =>
          fw_nn r5 fun j6 =>
          fw_rq 110 L3 j6 x4 fun r7 =>
          fw_nn r7 fun j8 =>
          fw_rd 100 L3 j8 x2 fun v9 =>
          fw_gR 1 L3 j0 21 fun r10 =>
          fw_nn r10 fun j11 =>
          fw_rq 110 L3 j11 x6 fun r12 =>
          fw_nn r12 fun j13 =>
          fw_rd 100 L3 j13 x2 fun v14 =>
          if v9 = v14 then (
            f_X0_alike_71 rec5 (f_X0_alike_18 rec5 n) j0 x1 x2 x3 x4 x6 (nI 1) x5 L3
          ) else (
            f_X0_alike_70 rec5 (f_X0_alike_18 rec5 n) j0 x1 x2 x3 x4 x6 x5 L3
          )
        )
      )
    )
def f_X0_alike_5 : Nat → Nat → Int32 → Int32 → Int32 → Int32 → LH → Rs Int32
  | 0, _, _, _, _, _, _ => none
  | n + 1, j0, x1, x2, x3, x4, L =>
    if (nI 9) < x4 then (
      some (x3, L, 0, 0)
    ) else (
      f_X0_alike_18 (f_X0_alike_5 n) fw_fuel j0 x1 x2 x3 x4 (nI 0) (nI 1) L
    )
def f_X0_alike (j0 : Nat) (x1 : Int32) (x2 : Int32) (L : LH) : Rs Int32 :=
  f_X0_alike_5 fw_fuel j0 x1 x2 (nI 0) (nI 1) L
set_option maxHeartbeats 4000000 in
set_option maxRecDepth 100000 in
theorem w_X0_alike_71 {K : Kx} {r9 : Int32} {L9 : LH} (hK : Ok K cX0_alike 7 RX0 1 24) (hZ : fw_isZ K) (hF : Fin K (some (.int)) (some (aI r9)) L9) {rec5 : Nat → Int32 → Int32 → Int32 → Int32 → LH → Rs Int32} (hrec5 : ∀ {j0 : Nat} {x1 : Int32} {x2 : Int32} {x3 : Int32} {x4 : Int32} {L : LH} {mc ms : Nat}, rec5 j0 x1 x2 x3 x4 L = some (r9, L9, mc, ms) → AW K L mc ms 5 [(0, aR (some j0)), (1, aI x1), (2, aI x2), (3, aI x3), (4, aI x4)] []) {rec18 : Nat → Int32 → Int32 → Int32 → Int32 → Int32 → Int32 → LH → Rs Int32} (hrec18 : ∀ {j0 : Nat} {x1 : Int32} {x2 : Int32} {x3 : Int32} {x4 : Int32} {x5 : Int32} {x6 : Int32} {L : LH} {mc ms : Nat}, rec18 j0 x1 x2 x3 x4 x5 x6 L = some (r9, L9, mc, ms) → AW K L mc ms 18 [(0, aR (some j0)), (1, aI x1), (2, aI x2), (3, aI x3), (4, aI x4), (5, aI x5), (6, aI x6)] []) {j0 : Nat} {x1 : Int32} {x2 : Int32} {x3 : Int32} {x4 : Int32} {x6 : Int32} {sx0 : Int32} {sx1 : Int32} {L : LH} {mc ms : Nat} (h : f_X0_alike_71 rec5 rec18 j0 x1 x2 x3 x4 x6 sx0 sx1 L = some (r9, L9, mc, ms)) : AW K L mc ms 71 [(0, aR (some j0)), (1, aI x1), (2, aI x2), (3, aI x3), (4, aI x4), (6, aI x6)] [aI sx0, aI sx1] := by
  unfold f_X0_alike_71 at h
  refine aw_iadd hK dX0_alike_71 ?_
  refine aw_istore (lv' := [(5, aI (sx1 + sx0)), (0, aR (some j0)), (1, aI x1), (2, aI x2), (3, aI x3), (4, aI x4), (6, aI x6)]) hK dX0_alike_72 (by decide) rfl ?_
  refine aw_iinc (v := (x6 + (nI 1))) (lv' := [(6, aI (x6 + (nI 1))), (5, aI (sx1 + sx0)), (0, aR (some j0)), (1, aI x1), (2, aI x2), (3, aI x3), (4, aI x4)]) hK 6 dX0_alike_74 rfl rfl (by decide) rfl ?_
  refine aw_goto (tgt := 18) hK dX0_alike_77 (by decide) ?_
  exact aw_sub [2, 3, 4, 5, 6, 1, 0] rfl (hrec18 h)
set_option maxHeartbeats 4000000 in
set_option maxRecDepth 100000 in
theorem w_X0_alike_70 {K : Kx} {r9 : Int32} {L9 : LH} (hK : Ok K cX0_alike 7 RX0 1 24) (hZ : fw_isZ K) (hF : Fin K (some (.int)) (some (aI r9)) L9) {rec5 : Nat → Int32 → Int32 → Int32 → Int32 → LH → Rs Int32} (hrec5 : ∀ {j0 : Nat} {x1 : Int32} {x2 : Int32} {x3 : Int32} {x4 : Int32} {L : LH} {mc ms : Nat}, rec5 j0 x1 x2 x3 x4 L = some (r9, L9, mc, ms) → AW K L mc ms 5 [(0, aR (some j0)), (1, aI x1), (2, aI x2), (3, aI x3), (4, aI x4)] []) {rec18 : Nat → Int32 → Int32 → Int32 → Int32 → Int32 → Int32 → LH → Rs Int32} (hrec18 : ∀ {j0 : Nat} {x1 : Int32} {x2 : Int32} {x3 : Int32} {x4 : Int32} {x5 : Int32} {x6 : Int32} {L : LH} {mc ms : Nat}, rec18 j0 x1 x2 x3 x4 x5 x6 L = some (r9, L9, mc, ms) → AW K L mc ms 18 [(0, aR (some j0)), (1, aI x1), (2, aI x2), (3, aI x3), (4, aI x4), (5, aI x5), (6, aI x6)] []) {j0 : Nat} {x1 : Int32} {x2 : Int32} {x3 : Int32} {x4 : Int32} {x6 : Int32} {sx0 : Int32} {L : LH} {mc ms : Nat} (h : f_X0_alike_70 rec5 rec18 j0 x1 x2 x3 x4 x6 sx0 L = some (r9, L9, mc, ms)) : AW K L mc ms 70 [(0, aR (some j0)), (1, aI x1), (2, aI x2), (3, aI x3), (4, aI x4), (6, aI x6)] [aI sx0] := by
  unfold f_X0_alike_70 at h
  refine aw_iconst (v := (nI 0)) hK dX0_alike_70 rfl ?_
  exact w_X0_alike_71 hK hZ hF (fun h => hrec5 h) (fun h => hrec18 h) h
set_option maxHeartbeats 4000000 in
set_option maxRecDepth 100000 in
theorem w_X0_alike_18 {K : Kx} {r9 : Int32} {L9 : LH} (hK : Ok K cX0_alike 7 RX0 1 24) (hZ : fw_isZ K) (hF : Fin K (some (.int)) (some (aI r9)) L9) {rec5 : Nat → Int32 → Int32 → Int32 → Int32 → LH → Rs Int32} (hrec5 : ∀ {j0 : Nat} {x1 : Int32} {x2 : Int32} {x3 : Int32} {x4 : Int32} {L : LH} {mc ms : Nat}, rec5 j0 x1 x2 x3 x4 L = some (r9, L9, mc, ms) → AW K L mc ms 5 [(0, aR (some j0)), (1, aI x1), (2, aI x2), (3, aI x3), (4, aI x4)] []) : ∀ {n : Nat} {j0 : Nat} {x1 : Int32} {x2 : Int32} {x3 : Int32} {x4 : Int32} {x5 : Int32} {x6 : Int32} {L : LH} {mc ms : Nat}, f_X0_alike_18 rec5 n j0 x1 x2 x3 x4 x5 x6 L = some (r9, L9, mc, ms) → AW K L mc ms 18 [(0, aR (some j0)), (1, aI x1), (2, aI x2), (3, aI x3), (4, aI x4), (5, aI x5), (6, aI x6)] [] := by
  intro n
  induction n with
  | zero =>
    intro j0 x1 x2 x3 x4 x5 x6 L mc ms h
    have h : (none : Rs Int32) = some (r9, L9, mc, ms) := h
    cases h
  | succ n ih =>
    intro j0 x1 x2 x3 x4 x5 x6 L mc ms h
    unfold f_X0_alike_18 at h
    refine aw_iload hK 6 dX0_alike_18 rfl ?_
    refine aw_bipush (v := (nI 9)) hK dX0_alike_20 rfl ?_
    refine aw_icmp_gt (tgt := 80) hK dX0_alike_22 (by decide) h (fun h => ?_) (fun h => ?_)
    · refine aw_iload hK 5 dX0_alike_80 rfl ?_
      refine aw_iload_n hK 3 dX0_alike_82 rfl rfl ?_
      refine aw_max hK q898 q495 q109 q496 dX0_alike_83 ⟨by decide, Nat.le_of_ble_eq_true rfl⟩ ?_
      refine aw_istore_n (lv' := [(3, aI (fw_max x5 x3)), (0, aR (some j0)), (1, aI x1), (2, aI x2), (4, aI x4), (5, aI x5), (6, aI x6)]) hK dX0_alike_86 rfl (by decide) rfl ?_
      refine aw_iinc (v := (x4 + (nI 1))) (lv' := [(4, aI (x4 + (nI 1))), (3, aI (fw_max x5 x3)), (0, aR (some j0)), (1, aI x1), (2, aI x2), (5, aI x5), (6, aI x6)]) hK 4 dX0_alike_87 rfl rfl (by decide) rfl ?_
      refine aw_goto (tgt := 5) hK dX0_alike_90 (by decide) ?_
      exact aw_sub [2, 3, 4, 1, 0] rfl (hrec5 h)
    · refine aw_iload hK 5 dX0_alike_25 rfl ?_
      refine aw_iload_n hK 1 dX0_alike_27 rfl rfl ?_
      refine aw_iload hK 4 dX0_alike_28 rfl ?_
      refine aw_callS_i (n := 2) hK (fun _ _ _ _ q => fw_czx hZ (ct_X0_isIn q)) (lw_S q799 q800 q94 q801) (by decide +kernel) (by decide) rfl rfl (Nat.le_of_ble_eq_true rfl) dX0_alike_30 h (fun v2 L1 _ _ h => ?_)
      refine aw_if_eq (tgt := 70) hK dX0_alike_33 (by decide) h (fun h => ?_) (fun h => ?_)
      · exact aw_sub [0, 1, 2, 3, 4, 6] rfl (w_X0_alike_70 hK hZ hF (fun h => hrec5 h) (fun h => ih h) h)
      · refine aw_iload_n hK 1 dX0_alike_36 rfl rfl ?_
        refine aw_iload hK 6 dX0_alike_37 rfl ?_
        refine aw_callS_i (n := 2) hK (fun _ _ _ _ q => fw_czx hZ (ct_X0_isIn q)) (lw_S q799 q800 q94 q801) (by decide +kernel) (by decide) rfl rfl (Nat.le_of_ble_eq_true rfl) dX0_alike_39 h (fun v4 L3 _ _ h => ?_)
        refine aw_if_eq (tgt := 70) hK dX0_alike_42 (by decide) h (fun h => ?_) (fun h => ?_)
        · exact aw_sub [0, 1, 2, 3, 4, 6] rfl (w_X0_alike_70 hK hZ hF (fun h => hrec5 h) (fun h => ih h) h)
        · refine aw_aload_n hK 0 dX0_alike_45 rfl rfl ?_
          refine aw_gR hK fw_c0 21 (by decide) rfl q247 (fun _ h9 => h9) dX0_alike_46 h (fun r5 h => ?_)
          refine aw_iload hK 4 dX0_alike_49 rfl ?_
          obtain _ | j6 := r5
          · exact (fw_nn_no h).elim
          replace h := fw_nn_so h
          refine aw_aald hK 10 (by decide) rfl dX0_alike_51 h (fun r7 h => ?_)
          refine aw_iload_n hK 2 dX0_alike_52 rfl rfl ?_
          obtain _ | j8 := r7
          · exact (fw_nn_no h).elim
          replace h := fw_nn_so h
          refine aw_iald hK dX0_alike_53 h (fun v9 h => ?_)
          refine aw_aload_n hK 0 dX0_alike_54 rfl rfl ?_
          refine aw_gR hK fw_c0 21 (by decide) rfl q247 (fun _ h9 => h9) dX0_alike_55 h (fun r10 h => ?_)
          refine aw_iload hK 6 dX0_alike_58 rfl ?_
          obtain _ | j11 := r10
          · exact (fw_nn_no h).elim
          replace h := fw_nn_so h
          refine aw_aald hK 10 (by decide) rfl dX0_alike_60 h (fun r12 h => ?_)
          refine aw_iload_n hK 2 dX0_alike_61 rfl rfl ?_
          obtain _ | j13 := r12
          · exact (fw_nn_no h).elim
          replace h := fw_nn_so h
          refine aw_iald hK dX0_alike_62 h (fun v14 h => ?_)
          refine aw_icmp_ne (tgt := 70) hK dX0_alike_63 (by decide) h (fun h => ?_) (fun h => ?_)
          · exact aw_sub [0, 1, 2, 3, 4, 6] rfl (w_X0_alike_70 hK hZ hF (fun h => hrec5 h) (fun h => ih h) h)
          · refine aw_iconst (v := (nI 1)) hK dX0_alike_66 rfl ?_
            refine aw_goto (tgt := 71) hK dX0_alike_67 (by decide) ?_
            exact aw_sub [0, 1, 2, 3, 4, 6] rfl (w_X0_alike_71 hK hZ hF (fun h => hrec5 h) (fun h => ih h) h)
set_option maxHeartbeats 4000000 in
set_option maxRecDepth 100000 in
theorem w_X0_alike_5 {K : Kx} {r9 : Int32} {L9 : LH} (hK : Ok K cX0_alike 7 RX0 1 24) (hZ : fw_isZ K) (hF : Fin K (some (.int)) (some (aI r9)) L9) : ∀ {n : Nat} {j0 : Nat} {x1 : Int32} {x2 : Int32} {x3 : Int32} {x4 : Int32} {L : LH} {mc ms : Nat}, f_X0_alike_5 n j0 x1 x2 x3 x4 L = some (r9, L9, mc, ms) → AW K L mc ms 5 [(0, aR (some j0)), (1, aI x1), (2, aI x2), (3, aI x3), (4, aI x4)] [] := by
  intro n
  induction n with
  | zero =>
    intro j0 x1 x2 x3 x4 L mc ms h
    have h : (none : Rs Int32) = some (r9, L9, mc, ms) := h
    cases h
  | succ n ih =>
    intro j0 x1 x2 x3 x4 L mc ms h
    unfold f_X0_alike_5 at h
    refine aw_iload hK 4 dX0_alike_5 rfl ?_
    refine aw_bipush (v := (nI 9)) hK dX0_alike_7 rfl ?_
    refine aw_icmp_gt (tgt := 93) hK dX0_alike_9 (by decide) h (fun h => ?_) (fun h => ?_)
    · refine aw_iload_n hK 3 dX0_alike_93 rfl rfl ?_
      exact aw_iret hK dX0_alike_94 h hF
    · refine aw_iconst (v := (nI 0)) hK dX0_alike_12 rfl ?_
      refine aw_istore (lv' := [(5, aI (nI 0)), (0, aR (some j0)), (1, aI x1), (2, aI x2), (3, aI x3), (4, aI x4)]) hK dX0_alike_13 (by decide) rfl ?_
      refine aw_iconst (v := (nI 1)) hK dX0_alike_15 rfl ?_
      refine aw_istore (lv' := [(6, aI (nI 1)), (5, aI (nI 0)), (0, aR (some j0)), (1, aI x1), (2, aI x2), (3, aI x3), (4, aI x4)]) hK dX0_alike_16 (by decide) rfl ?_
      exact aw_sub [2, 3, 4, 5, 6, 1, 0] rfl (w_X0_alike_18 hK hZ hF (fun h => ih h) h)
set_option maxHeartbeats 4000000 in
set_option maxRecDepth 100000 in
theorem w_X0_alike_0 {K : Kx} {r9 : Int32} {L9 : LH} (hK : Ok K cX0_alike 7 RX0 1 24) (hZ : fw_isZ K) (hF : Fin K (some (.int)) (some (aI r9)) L9) {j0 : Nat} {x1 : Int32} {x2 : Int32} {L : LH} {mc ms : Nat} (h : f_X0_alike j0 x1 x2 L = some (r9, L9, mc, ms)) : AW K L mc ms 0 [(0, aR (some j0)), (1, aI x1), (2, aI x2)] [] := by
  unfold f_X0_alike at h
  refine aw_iconst (v := (nI 0)) hK dX0_alike_0 rfl ?_
  refine aw_istore_n (lv' := [(3, aI (nI 0)), (0, aR (some j0)), (1, aI x1), (2, aI x2)]) hK dX0_alike_1 rfl (by decide) rfl ?_
  refine aw_iconst (v := (nI 1)) hK dX0_alike_2 rfl ?_
  refine aw_istore (lv' := [(4, aI (nI 1)), (3, aI (nI 0)), (0, aR (some j0)), (1, aI x1), (2, aI x2)]) hK dX0_alike_3 (by decide) rfl ?_
  exact aw_sub [2, 3, 4, 1, 0] rfl (w_X0_alike_5 hK hZ hF h)
theorem ct_X0_alike {j0 : Nat} {x1 : Int32} {x2 : Int32} {L : LH} {r9 : Int32} {L9 : LH} {mc ms : Nat} (h : f_X0_alike j0 x1 x2 L = some (r9, L9, mc, ms)) : fw_Cx yX0_alike (ws_ yX0_alike cX0_alike 7 (some (.int))) 1 24 [aR (some j0), aI x1, aI x2] L (some (aI r9)) L9 mc ms :=
  fun b1 b2 => ct_of (own := RX0) fw_ZX_ok (by decide +kernel) rfl (Nat.le_of_ble_eq_true rfl) (fun K hZ hK hF hini => w_X0_alike_0 hK ⟨b1, b2, hZ⟩ hF h)
def f_X0_part_10 (y0 : Int64) (y2 : Int64) (sy0 : Int64) (L : LH) : Rs Int64 :=
  fw_cl (f_X0_divisor 130 y0 y2 L) fun v2 L1 =>
  fw_nzl v2 <|
  some ((sy0 / v2), L1, 0, 0)
def f_X0_part (y0 : Int64) (y2 : Int64) (x4 : Int32) (L : LH) : Rs Int64 :=
  if x4 = 0 then (
    f_X0_part_10 y0 y2 y0 L
  ) else (
    f_X0_part_10 y0 y2 y2 L
  )
set_option maxHeartbeats 4000000 in
set_option maxRecDepth 100000 in
theorem w_X0_part_10 {K : Kx} {r9 : Int64} {L9 : LH} (hK : Ok K cX0_part 5 RX0 131 3013) (hZ : fw_isZ K) (hF : Fin K (some (.long)) (some (aL r9)) L9) {y0 : Int64} {y2 : Int64} {sy0 : Int64} {L : LH} {mc ms : Nat} (h : f_X0_part_10 y0 y2 sy0 L = some (r9, L9, mc, ms)) : AW K L mc ms 10 [(0, aL y0), (2, aL y2)] [aL sy0] := by
  unfold f_X0_part_10 at h
  refine aw_lload_n hK 0 dX0_part_10 rfl rfl ?_
  refine aw_lload_n hK 1 dX0_part_11 rfl rfl ?_
  refine aw_callS_l (n := 2) hK (fun _ _ _ _ q => fw_czx hZ (ct_X0_divisor q)) (lw_S q1030 q1031 q94 q1032) (by decide +kernel) (by decide) rfl rfl (Nat.le_of_ble_eq_true rfl) dX0_part_12 h (fun v2 L1 _ _ h => ?_)
  obtain ⟨hne, h⟩ := fw_nzl_h h
  refine aw_ldiv hK dX0_part_15 hne ?_
  exact aw_lret hK dX0_part_16 h hF
set_option maxHeartbeats 4000000 in
set_option maxRecDepth 100000 in
theorem w_X0_part_0 {K : Kx} {r9 : Int64} {L9 : LH} (hK : Ok K cX0_part 5 RX0 131 3013) (hZ : fw_isZ K) (hF : Fin K (some (.long)) (some (aL r9)) L9) {y0 : Int64} {y2 : Int64} {x4 : Int32} {L : LH} {mc ms : Nat} (h : f_X0_part y0 y2 x4 L = some (r9, L9, mc, ms)) : AW K L mc ms 0 [(0, aL y0), (2, aL y2), (4, aI x4)] [] := by
  unfold f_X0_part at h
  refine aw_iload hK 2 dX0_part_0 rfl ?_
  refine aw_if_ne (tgt := 9) hK dX0_part_2 (by decide) h (fun h => ?_) (fun h => ?_)
  · refine aw_lload_n hK 1 dX0_part_9 rfl rfl ?_
    exact aw_sub [0, 1] rfl (w_X0_part_10 hK hZ hF h)
  · refine aw_lload_n hK 0 dX0_part_5 rfl rfl ?_
    refine aw_goto (tgt := 10) hK dX0_part_6 (by decide) ?_
    exact aw_sub [0, 1] rfl (w_X0_part_10 hK hZ hF h)
theorem ct_X0_part {y0 : Int64} {y2 : Int64} {x4 : Int32} {L : LH} {r9 : Int64} {L9 : LH} {mc ms : Nat} (h : f_X0_part y0 y2 x4 L = some (r9, L9, mc, ms)) : fw_Cx yX0_part (ws_ yX0_part cX0_part 5 (some (.long))) 131 3013 [aL y0, aL y2, aI x4] L (some (aL r9)) L9 mc ms :=
  fun b1 b2 => ct_of (own := RX0) fw_ZX_ok (by decide +kernel) rfl (Nat.le_of_ble_eq_true rfl) (fun K hZ hK hF hini => w_X0_part_0 hK ⟨b1, b2, hZ⟩ hF h)
def f_X0_no (x0 : Int32) (L : LH) : Rs Int64 :=
  some (((-9223372036854775808 : Int64) - x0.toInt64), L, 0, 0)
set_option maxHeartbeats 4000000 in
set_option maxRecDepth 100000 in
theorem w_X0_no_0 {K : Kx} {r9 : Int64} {L9 : LH} (hK : Ok K cX0_no 1 RX0 0 0) (hZ : fw_isZ K) (hF : Fin K (some (.long)) (some (aL r9)) L9) {x0 : Int32} {L : LH} {mc ms : Nat} (h : f_X0_no x0 L = some (r9, L9, mc, ms)) : AW K L mc ms 0 [(0, aI x0)] [] := by
  unfold f_X0_no at h
  refine aw_ldc2 (v := -9223372036854775808) hK q1036 dX0_no_0 ?_
  refine aw_iload_n hK 0 dX0_no_3 rfl rfl ?_
  refine aw_i2l hK dX0_no_4 ?_
  refine aw_lsub hK dX0_no_5 ?_
  exact aw_lret hK dX0_no_6 h hF
theorem ct_X0_no {x0 : Int32} {L : LH} {r9 : Int64} {L9 : LH} {mc ms : Nat} (h : f_X0_no x0 L = some (r9, L9, mc, ms)) : fw_Cx yX0_no (ws_ yX0_no cX0_no 1 (some (.long))) 0 0 [aI x0] L (some (aL r9)) L9 mc ms :=
  fun b1 b2 => ct_of (own := RX0) fw_ZX_ok (by decide +kernel) rfl (Nat.le_of_ble_eq_true rfl) (fun K hZ hK hF hini => w_X0_no_0 hK ⟨b1, b2, hZ⟩ hF h)
def f_X0_lot (j0 : Nat) (x1 : Int32) (L : LH) : Rs Int32 :=
  fw_gI 1 L j0 22 fun v1 =>
  fw_pI 1 L j0 22 (((1103515245 : Int32) * v1) + (nI 12345)) fun L2 =>
  fw_gI 1 L2 j0 22 fun v3 =>
  fw_nz x1 <|
  some ((((v3.toUInt32 >>> ((nI 16).toUInt32 &&& Int32.toUInt32 31)).toInt32) - ((v3.toUInt32 >>> ((nI 16).toUInt32 &&& Int32.toUInt32 31)).toInt32) / x1 * x1), L2, 0, 0)
set_option maxHeartbeats 4000000 in
set_option maxRecDepth 100000 in
theorem w_X0_lot_0 {K : Kx} {r9 : Int32} {L9 : LH} (hK : Ok K cX0_lot 2 RX0 0 0) (hZ : fw_isZ K) (hF : Fin K (some (.int)) (some (aI r9)) L9) {j0 : Nat} {x1 : Int32} {L : LH} {mc ms : Nat} (h : f_X0_lot j0 x1 L = some (r9, L9, mc, ms)) : AW K L mc ms 0 [(0, aR (some j0)), (1, aI x1)] [] := by
  unfold f_X0_lot at h
  refine aw_aload_n hK 0 dX0_lot_0 rfl rfl ?_
  refine aw_ldc_w (v := 1103515245) hK q1049 dX0_lot_1 ?_
  refine aw_aload_n hK 0 dX0_lot_4 rfl rfl ?_
  refine aw_gI hK fw_c0 22 (by decide) rfl q248 (fun _ h9 => h9) dX0_lot_5 h (fun v1 h => ?_)
  refine aw_imul hK dX0_lot_8 ?_
  refine aw_sipush (v := (nI 12345)) hK dX0_lot_9 rfl ?_
  refine aw_iadd hK dX0_lot_12 ?_
  refine aw_pI hK fw_c0 22 (by decide) rfl q248 (fun _ h9 => h9) rfl rfl rfl dX0_lot_13 h (fun L2 h => ?_)
  refine aw_aload_n hK 0 dX0_lot_16 rfl rfl ?_
  refine aw_gI hK fw_c0 22 (by decide) rfl q248 (fun _ h9 => h9) dX0_lot_17 h (fun v3 h => ?_)
  refine aw_bipush (v := (nI 16)) hK dX0_lot_20 rfl ?_
  refine aw_iushr hK dX0_lot_22 ?_
  refine aw_iload_n hK 1 dX0_lot_23 rfl rfl ?_
  obtain ⟨hne, h⟩ := fw_nz_h h
  refine aw_irem hK dX0_lot_24 hne ?_
  exact aw_iret hK dX0_lot_25 h hF
theorem ct_X0_lot {j0 : Nat} {x1 : Int32} {L : LH} {r9 : Int32} {L9 : LH} {mc ms : Nat} (h : f_X0_lot j0 x1 L = some (r9, L9, mc, ms)) : fw_Cx yX0_lot (ws_ yX0_lot cX0_lot 2 (some (.int))) 0 0 [aR (some j0), aI x1] L (some (aI r9)) L9 mc ms :=
  fun b1 b2 => ct_of (own := RX0) fw_ZX_ok (by decide +kernel) rfl (Nat.le_of_ble_eq_true rfl) (fun K hZ hK hF hini => w_X0_lot_0 hK ⟨b1, b2, hZ⟩ hF h)
def f_X0_rowOf (x0 : Int32) (x1 : Int32) (L : LH) : Rs ((Option Nat) ⊕ XO) :=
  if x0 = (nI 0) then (
    fw_naX 101 x1 L (fun x L9 => some (.inr x, L9, 0, 0)) fun j1 L2 =>
    some (.inl (some j1), L2, 0, 0)
  ) else (
    if x0 = (nI 1) then (
      fw_naX 102 x1 L (fun x L9 => some (.inr x, L9, 0, 0)) fun j3 L4 =>
      some (.inl (some j3), L4, 0, 0)
    ) else (
      fw_naX 100 x1 L (fun x L9 => some (.inr x, L9, 0, 0)) fun j5 L6 =>
      some (.inl (some j5), L6, 0, 0)
    )
  )
set_option maxHeartbeats 4000000 in
set_option maxRecDepth 100000 in
theorem w_X0_rowOf_0 {K : Kx} {r9 : ((Option Nat) ⊕ XO)} {L9 : LH} (hK : Ok K cX0_rowOf 2 RX0 8 10248) (hZ : fw_isZ K) (hnt : ∀ x ∈ (kx_c K).exceptionTable.toList, False) (hF : FinX K (some (.object "java/lang/Object")) (fw_ox (fun r => some (aR r)) r9) L9) {x0 : Int32} {x1 : Int32} {L : LH} {mc ms : Nat} (h : f_X0_rowOf x0 x1 L = some (r9, L9, mc, ms)) : AW K L mc ms 0 [(0, aI x0), (1, aI x1)] [] := by
  unfold f_X0_rowOf at h
  refine aw_iload_n hK 0 dX0_rowOf_0 rfl rfl ?_
  by_cases c0 : x0 = (nI 0)
  · rw [if_pos c0] at h
    refine aw_lookIn (tgt := 28) hK dX0_rowOf_1 c0 rfl rfl (by decide) ?_
    refine aw_iload_n hK 1 dX0_rowOf_28 rfl rfl ?_
    refine aw_newaX hK hZ 1 (by decide) rfl q166 (by decide) (Nat.le_of_ble_eq_true rfl) dX0_rowOf_29 h (fun _ _ h => ax_out hK hnt h hF) (fun j1 L2 _ _ h => ?_)
    exact aw_xaret hK rfl dX0_rowOf_31 h hF
  · rw [if_neg c0] at h
    by_cases c1 : x0 = (nI 1)
    · rw [if_pos c1] at h
      refine aw_lookIn (tgt := 32) hK dX0_rowOf_1 c1 rfl rfl (by decide) ?_
      refine aw_iload_n hK 1 dX0_rowOf_32 rfl rfl ?_
      refine aw_newaX hK hZ 2 (by decide) rfl q1086 (by decide) (Nat.le_of_ble_eq_true rfl) dX0_rowOf_33 h (fun _ _ h => ax_out hK hnt h hF) (fun j3 L4 _ _ h => ?_)
      exact aw_xaret hK rfl dX0_rowOf_35 h hF
    · rw [if_neg c1] at h
      refine aw_lookOut (tgt := 36) (off := 35) hK dX0_rowOf_1 rfl ?_ (by decide) ?_
      · exact (lv_osw c0 rfl).trans ((lv_osw c1 rfl).trans (rfl))
      · refine aw_iload_n hK 1 dX0_rowOf_36 rfl rfl ?_
        refine aw_newaX hK hZ 0 (by decide) rfl q207 (by decide) (Nat.le_of_ble_eq_true rfl) dX0_rowOf_37 h (fun _ _ h => ax_out hK hnt h hF) (fun j5 L6 _ _ h => ?_)
        exact aw_xaret hK rfl dX0_rowOf_39 h hF
theorem ct_X0_rowOf {x0 : Int32} {x1 : Int32} {L : LH} {r9 : ((Option Nat) ⊕ XO)} {L9 : LH} {mc ms : Nat} (h : f_X0_rowOf x0 x1 L = some (r9, L9, mc, ms)) : fw_CxX yX0_rowOf (ws_ yX0_rowOf cX0_rowOf 2 (some (.object "java/lang/Object"))) 8 10248 [aI x0, aI x1] L (fw_ox (fun r => some (aR r)) r9) L9 mc ms :=
  fun b1 b2 => ctx_of (own := RX0) fw_ZX_ok (by decide +kernel) rfl (Nat.le_of_ble_eq_true rfl) (fun K hZ hK hF hnt => w_X0_rowOf_0 hK ⟨b1, b2, hZ⟩ hnt hF h)
def f_X0_put (j0 : Nat) (x1 : Int32) (x2 : Int32) (x3 : Int32) (x4 : Int32) (L : LH) : Rs Int32 :=
  fw_cl (f_X0_isSheet x1 L) fun v2 L1 =>
  if v2 = 0 then (
    some ((-nI 2), L1, 0, 0)
  ) else (
    fw_cl (f_X0_in x2.toInt64 (0 : Int64) (2 : Int64) L1) fun v4 L3 =>
    if v4 = 0 then (
      some ((-nI 2), L3, 0, 0)
    ) else (
      fw_gR 1 L3 j0 24 fun r5 =>
      fw_nn r5 fun j6 =>
      fw_rq 109 L3 j6 x1 fun r7 =>
      fw_nn r7 fun j9 =>
      fw_gR 4 L3 j9 0 fun r8 =>
      if r8 = none then (
        fw_is 1 L3 j0 <|
        fw_cl (f_X0_met j0 (nI 1) L3) fun v20 L19 =>
        some (v20, L19, 0, 0)
      ) else (
        fw_gR 1 L3 j0 24 fun r10 =>
        fw_nn r10 fun j11 =>
        fw_rq 109 L3 j11 x1 fun r12 =>
        fw_nn r12 fun j14 =>
        fw_is 4 L3 j14 <|
        fw_cx (f_X4_lay j14 x2 x3 x4 L3) (fun x L13 =>
          fw_tE x nCC (
            fw_is 1 L13 j0 <|
            fw_cl (f_X0_met j0 (nI 3) L13) fun v16 L15 =>
            some (v16, L15, 0, 0)
          ) <|
          fw_tE x nAI (
            fw_is 1 L13 j0 <|
            fw_cl (f_X0_met j0 (nI 2) L13) fun v18 L17 =>
            some (v18, L17, 0, 0)
          ) <|
          none
        ) fun _ L13 =>
        some ((nI 1), L13, 0, 0)
      )
    )
  )
set_option maxHeartbeats 4000000 in
set_option maxRecDepth 100000 in
theorem w_X0_put_0 {K : Kx} {r9 : Int32} {L9 : LH} (hK : Ok K cX0_put 6 RX0 9 10271) (hZ : fw_isZ K) (htab : (kx_c K).exceptionTable.toList = tableOf [(40, 54, 55, 407), (40, 54, 63, 409)]) (hF : Fin K (some (.int)) (some (aI r9)) L9) {j0 : Nat} {x1 : Int32} {x2 : Int32} {x3 : Int32} {x4 : Int32} {L : LH} {mc ms : Nat} (h : f_X0_put j0 x1 x2 x3 x4 L = some (r9, L9, mc, ms)) : AW K L mc ms 0 [(0, aR (some j0)), (1, aI x1), (2, aI x2), (3, aI x3), (4, aI x4)] [] := by
  unfold f_X0_put at h
  refine aw_iload_n hK 1 dX0_put_0 rfl rfl ?_
  refine aw_callS_i (n := 1) hK (fun _ _ _ _ q => fw_czx hZ (ct_X0_isSheet q)) (lw_S q753 q754 q94 q755) (by decide +kernel) (by decide) rfl rfl (Nat.le_of_ble_eq_true rfl) dX0_put_1 h (fun v2 L1 _ _ h => ?_)
  refine aw_if_eq (tgt := 19) hK dX0_put_4 (by decide) h (fun h => ?_) (fun h => ?_)
  · refine aw_bipush (v := (-nI 2)) hK dX0_put_19 rfl ?_
    exact aw_iret hK dX0_put_21 h hF
  · refine aw_iload_n hK 2 dX0_put_7 rfl rfl ?_
    refine aw_i2l hK dX0_put_8 ?_
    refine aw_lconst (v := 0) hK dX0_put_9 rfl ?_
    refine aw_ldc2 (v := 2) hK q664 dX0_put_10 ?_
    refine aw_callS_i (n := 3) hK (fun _ _ _ _ q => fw_czx hZ (ct_X0_in q)) (lw_S q310 q311 q94 q312) (by decide +kernel) (by decide) rfl rfl (Nat.le_of_ble_eq_true rfl) dX0_put_13 h (fun v4 L3 _ _ h => ?_)
    refine aw_if_ne (tgt := 22) hK dX0_put_16 (by decide) h (fun h => ?_) (fun h => ?_)
    · refine aw_aload_n hK 0 dX0_put_22 rfl rfl ?_
      refine aw_gR hK fw_c0 24 (by decide) rfl q250 (fun _ h9 => h9) dX0_put_23 h (fun r5 h => ?_)
      refine aw_iload_n hK 1 dX0_put_26 rfl rfl ?_
      obtain _ | j6 := r5
      · exact (fw_nn_no h).elim
      replace h := fw_nn_so h
      refine aw_aald hK 9 (by decide) rfl dX0_put_27 h (fun r7 h => ?_)
      obtain _ | j9 := r7
      · exact (fw_nn_no h).elim
      replace h := fw_nn_so h
      refine aw_gRN hK fw_c3 0 (by decide) rfl (fw_nsW hK hZ (w := Cond.fieldLinkNest "TugOfWar" 179 "TugOfWar$Sheet" "row" "Ljava/lang/Object;" "TugOfWar") (by decide)) (fun _ h9 => h9) dX0_put_28 h (fun r8 h => ?_)
      refine aw_ifnonnull (tgt := 40) hK dX0_put_31 (by decide) h (fun h => ?_) (fun h => ?_)
      · refine aw_aload_n hK 0 dX0_put_40 rfl rfl ?_
        refine aw_gR hK fw_c0 24 (by decide) rfl q250 (fun _ h9 => h9) dX0_put_41 h (fun r10 h => ?_)
        refine aw_iload_n hK 1 dX0_put_44 rfl rfl ?_
        obtain _ | j11 := r10
        · exact (fw_nn_no h).elim
        replace h := fw_nn_so h
        refine aw_aald hK 9 (by decide) rfl dX0_put_45 h (fun r12 h => ?_)
        refine aw_iload_n hK 2 dX0_put_46 rfl rfl ?_
        refine aw_iload_n hK 3 dX0_put_47 rfl rfl ?_
        refine aw_iload hK 4 dX0_put_48 rfl ?_
        obtain _ | j14 := r12
        · exact (fw_nn_no h).elim
        replace h := fw_nn_so h
        obtain ⟨hj, h⟩ := fw_is_h h
        refine aw_callX_v hK (fun _ _ _ _ q => rx_V (n := 3) hK (fw_rcvW hK fw_c3 hj) (fw_czX hZ (ct_X4_lay q)) (lw_V q1128 q1129 q1130 q101 q1131) (by decide +kernel) (by decide) rfl rfl (Nat.le_of_ble_eq_true rfl) dX0_put_50) (fw_mt (n := 4) rfl) h (fun x L13 _ _ h => ?_) (fun _ L13 _ _ h => ?_)
        · rcases fw_tE_h h with ⟨rfl, h⟩ | h
          · refine ax_catchE hK hZ (E := nCC) (pre := []) (name := "java/lang/ClassCastException") (i := 5) htab (fun z hz => by cases hz) (by decide) (by decide) q1095 (by decide) dX0_put_55 (by decide) rfl ?_
            refine aw_aload_n hK 0 dX0_put_57 rfl rfl ?_
            refine aw_iconst (v := (nI 3)) hK dX0_put_58 rfl ?_
            obtain ⟨hj, h⟩ := fw_is_h h
            refine aw_callV_i (n := 1) hK fw_c0 hj (fun _ _ _ _ q => fw_czx hZ (ct_X0_met q)) (lw_V q756 q758 qs8 q94 q759) (by decide +kernel) (by decide) rfl rfl (Nat.le_of_ble_eq_true rfl) dX0_put_59 h (fun v16 L15 _ _ h => ?_)
            exact aw_iret hK dX0_put_62 h hF
          · skip
            rcases fw_tE_h h with ⟨rfl, h⟩ | h
            · refine ax_catchE hK hZ (E := nAI) (pre := [_]) (name := "java/lang/ArrayIndexOutOfBoundsException") (i := 5) htab (fun z hz => by rw [List.mem_singleton.mp hz]; exact Or.inr ⟨by decide, "java/lang/ClassCastException", q1095, by decide⟩) (by decide) (by decide) q1109 (by decide) dX0_put_63 (by decide) rfl ?_
              refine aw_aload_n hK 0 dX0_put_65 rfl rfl ?_
              refine aw_iconst (v := (nI 2)) hK dX0_put_66 rfl ?_
              obtain ⟨hj, h⟩ := fw_is_h h
              refine aw_callV_i (n := 1) hK fw_c0 hj (fun _ _ _ _ q => fw_czx hZ (ct_X0_met q)) (lw_V q756 q758 qs8 q94 q759) (by decide +kernel) (by decide) rfl rfl (Nat.le_of_ble_eq_true rfl) dX0_put_67 h (fun v18 L17 _ _ h => ?_)
              exact aw_iret hK dX0_put_70 h hF
            · skip
              exact (fw_no h).elim
        refine aw_iconst (v := (nI 1)) hK dX0_put_53 rfl ?_
        exact aw_iret hK dX0_put_54 h hF
      · refine aw_aload_n hK 0 dX0_put_34 rfl rfl ?_
        refine aw_iconst (v := (nI 1)) hK dX0_put_35 rfl ?_
        obtain ⟨hj, h⟩ := fw_is_h h
        refine aw_callV_i (n := 1) hK fw_c0 hj (fun _ _ _ _ q => fw_czx hZ (ct_X0_met q)) (lw_V q756 q758 qs8 q94 q759) (by decide +kernel) (by decide) rfl rfl (Nat.le_of_ble_eq_true rfl) dX0_put_36 h (fun v20 L19 _ _ h => ?_)
        exact aw_iret hK dX0_put_39 h hF
    · refine aw_bipush (v := (-nI 2)) hK dX0_put_19 rfl ?_
      exact aw_iret hK dX0_put_21 h hF
theorem ct_X0_put {j0 : Nat} {x1 : Int32} {x2 : Int32} {x3 : Int32} {x4 : Int32} {L : LH} {r9 : Int32} {L9 : LH} {mc ms : Nat} (h : f_X0_put j0 x1 x2 x3 x4 L = some (r9, L9, mc, ms)) : fw_Cx yX0_put (wsW_ yX0_put cX0_put 6 (some (.int)) [(40, 54, 55, 407), (40, 54, 63, 409)]) 9 10271 [aR (some j0), aI x1, aI x2, aI x3, aI x4] L (some (aI r9)) L9 mc ms :=
  fun b1 b2 => ct_ofT (own := RX0) fw_ZX_ok (by decide +kernel) rfl (Nat.le_of_ble_eq_true rfl) (fun K hZ hK hF htab => w_X0_put_0 hK ⟨b1, b2, hZ⟩ htab hF h)
def f_X0_lowest (j0 : Nat) (x1 : Int32) (L : LH) : Rs Int32 :=
  fw_pI 1 L j0 0 x1 fun L1 =>
  some ((-2147483648 : Int32), L1, 0, 0)
set_option maxHeartbeats 4000000 in
set_option maxRecDepth 100000 in
theorem w_X0_lowest_0 {K : Kx} {r9 : Int32} {L9 : LH} (hK : Ok K cX0_lowest 2 RX0 0 0) (hZ : fw_isZ K) (hF : Fin K (some (.int)) (some (aI r9)) L9) {j0 : Nat} {x1 : Int32} {L : LH} {mc ms : Nat} (h : f_X0_lowest j0 x1 L = some (r9, L9, mc, ms)) : AW K L mc ms 0 [(0, aR (some j0)), (1, aI x1)] [] := by
  unfold f_X0_lowest at h
  refine aw_aload_n hK 0 dX0_lowest_0 rfl rfl ?_
  refine aw_iload_n hK 1 dX0_lowest_1 rfl rfl ?_
  refine aw_pI hK fw_c0 0 (by decide) rfl q226 (fun _ h9 => h9) rfl rfl rfl dX0_lowest_2 h (fun L1 h => ?_)
  refine aw_ldc (v := -2147483648) hK q1136 dX0_lowest_5 ?_
  exact aw_iret hK dX0_lowest_7 h hF
theorem ct_X0_lowest {j0 : Nat} {x1 : Int32} {L : LH} {r9 : Int32} {L9 : LH} {mc ms : Nat} (h : f_X0_lowest j0 x1 L = some (r9, L9, mc, ms)) : fw_Cx yX0_lowest (ws_ yX0_lowest cX0_lowest 2 (some (.int))) 0 0 [aR (some j0), aI x1] L (some (aI r9)) L9 mc ms :=
  fun b1 b2 => ct_of (own := RX0) fw_ZX_ok (by decide +kernel) rfl (Nat.le_of_ble_eq_true rfl) (fun K hZ hK hF hini => w_X0_lowest_0 hK ⟨b1, b2, hZ⟩ hF h)
def f_X0_copy_41 (j0 : Nat) (L : LH) : Rs Int32 :=
  fw_is 1 L j0 <|
  fw_cl (f_X0_met j0 (nI 1) L) fun v2 L1 =>
  some (v2, L1, 0, 0)
def f_X0_copy (j0 : Nat) (x1 : Int32) (x2 : Int32) (x3 : Int32) (x4 : Int32) (x5 : Int32) (L : LH) : Rs Int32 :=
  fw_cl (f_X0_isSheet x1 L) fun v2 L1 =>
  if v2 = 0 then (
    some ((-nI 2), L1, 0, 0)
  ) else (
    fw_cl (f_X0_isSheet x3 L1) fun v4 L3 =>
    if v4 = 0 then (
      some ((-nI 2), L3, 0, 0)
    ) else (
      fw_gR 1 L3 j0 24 fun r5 =>
      fw_nn r5 fun j6 =>
      fw_rq 109 L3 j6 x1 fun r7 =>
      fw_nn r7 fun j9 =>
      fw_gR 4 L3 j9 0 fun r8 =>
      if r8 = none then (
        f_X0_copy_41 j0 L3
      ) else (
        fw_gR 1 L3 j0 24 fun r10 =>
        fw_nn r10 fun j11 =>
        fw_rq 109 L3 j11 x3 fun r12 =>
        fw_nn r12 fun j14 =>
        fw_gR 4 L3 j14 0 fun r13 =>
        if r13 = none then (
          f_X0_copy_41 j0 L3
        ) else (
          fw_gR 1 L3 j0 24 fun r15 =>
          fw_nn r15 fun j16 =>
          fw_rq 109 L3 j16 x1 fun r17 =>
          fw_nn r17 fun j20 =>
          fw_is 4 L3 j20 <|
          fw_cl (f_X4_type j20 L3) fun v19 L18 =>
          fw_gR 1 L18 j0 24 fun r21 =>
          fw_nn r21 fun j22 =>
          fw_rq 109 L18 j22 x3 fun r23 =>
          fw_nn r23 fun j26 =>
          fw_is 4 L18 j26 <|
          fw_cl (f_X4_type j26 L18) fun v25 L24 =>
          if v19 = v25 then (
            fw_gR 1 L24 j0 24 fun r27 =>
            fw_nn r27 fun j28 =>
            fw_rq 109 L24 j28 x1 fun r29 =>
            fw_nn r29 fun j31 =>
            fw_gR 4 L24 j31 0 fun r30 =>
            fw_gR 1 L24 j0 24 fun r32 =>
            fw_nn r32 fun j33 =>
            fw_rq 109 L24 j33 x3 fun r34 =>
            fw_nn r34 fun j36 =>
            fw_gR 4 L24 j36 0 fun r35 =>
            fw_nn r30 fun j37 =>
            fw_nn r35 fun j38 =>
            fw_cpX L24 j37 x2 j38 x4 x5 (fun x L9 =>
              fw_tE x nAI (
                fw_is 1 L9 j0 <|
                fw_cl (f_X0_met j0 (nI 2) L9) fun v41 L40 =>
                some (v41, L40, 0, 0)
              ) <|
              none
            ) fun L39 =>
            some ((nI 1), L39, 0, 0)
          ) else (
            fw_is 1 L24 j0 <|
            fw_cl (f_X0_met j0 (nI 4) L24) fun v43 L42 =>
            some (v43, L42, 0, 0)
          )
        )
      )
    )
  )
set_option maxHeartbeats 4000000 in
set_option maxRecDepth 100000 in
theorem w_X0_copy_41 {K : Kx} {r9 : Int32} {L9 : LH} (hK : Ok K cX0_copy 7 RX0 9 10248) (hZ : fw_isZ K) (htab : (kx_c K).exceptionTable.toList = tableOf [(74, 101, 102, 414)]) (hF : Fin K (some (.int)) (some (aI r9)) L9) {j0 : Nat} {L : LH} {mc ms : Nat} (h : f_X0_copy_41 j0 L = some (r9, L9, mc, ms)) : AW K L mc ms 41 [(0, aR (some j0))] [] := by
  unfold f_X0_copy_41 at h
  refine aw_aload_n hK 0 dX0_copy_41 rfl rfl ?_
  refine aw_iconst (v := (nI 1)) hK dX0_copy_42 rfl ?_
  obtain ⟨hj, h⟩ := fw_is_h h
  refine aw_callV_i (n := 1) hK fw_c0 hj (fun _ _ _ _ q => fw_czx hZ (ct_X0_met q)) (lw_V q756 q758 qs8 q94 q759) (by decide +kernel) (by decide) rfl rfl (Nat.le_of_ble_eq_true rfl) dX0_copy_43 h (fun v2 L1 _ _ h => ?_)
  exact aw_iret hK dX0_copy_46 h hF
set_option maxHeartbeats 4000000 in
set_option maxRecDepth 100000 in
theorem w_X0_copy_0 {K : Kx} {r9 : Int32} {L9 : LH} (hK : Ok K cX0_copy 7 RX0 9 10248) (hZ : fw_isZ K) (htab : (kx_c K).exceptionTable.toList = tableOf [(74, 101, 102, 414)]) (hF : Fin K (some (.int)) (some (aI r9)) L9) {j0 : Nat} {x1 : Int32} {x2 : Int32} {x3 : Int32} {x4 : Int32} {x5 : Int32} {L : LH} {mc ms : Nat} (h : f_X0_copy j0 x1 x2 x3 x4 x5 L = some (r9, L9, mc, ms)) : AW K L mc ms 0 [(0, aR (some j0)), (1, aI x1), (2, aI x2), (3, aI x3), (4, aI x4), (5, aI x5)] [] := by
  unfold f_X0_copy at h
  refine aw_iload_n hK 1 dX0_copy_0 rfl rfl ?_
  refine aw_callS_i (n := 1) hK (fun _ _ _ _ q => fw_czx hZ (ct_X0_isSheet q)) (lw_S q753 q754 q94 q755) (by decide +kernel) (by decide) rfl rfl (Nat.le_of_ble_eq_true rfl) dX0_copy_1 h (fun v2 L1 _ _ h => ?_)
  refine aw_if_eq (tgt := 14) hK dX0_copy_4 (by decide) h (fun h => ?_) (fun h => ?_)
  · refine aw_bipush (v := (-nI 2)) hK dX0_copy_14 rfl ?_
    exact aw_iret hK dX0_copy_16 h hF
  · refine aw_iload_n hK 3 dX0_copy_7 rfl rfl ?_
    refine aw_callS_i (n := 1) hK (fun _ _ _ _ q => fw_czx hZ (ct_X0_isSheet q)) (lw_S q753 q754 q94 q755) (by decide +kernel) (by decide) rfl rfl (Nat.le_of_ble_eq_true rfl) dX0_copy_8 h (fun v4 L3 _ _ h => ?_)
    refine aw_if_ne (tgt := 17) hK dX0_copy_11 (by decide) h (fun h => ?_) (fun h => ?_)
    · refine aw_aload_n hK 0 dX0_copy_17 rfl rfl ?_
      refine aw_gR hK fw_c0 24 (by decide) rfl q250 (fun _ h9 => h9) dX0_copy_18 h (fun r5 h => ?_)
      refine aw_iload_n hK 1 dX0_copy_21 rfl rfl ?_
      obtain _ | j6 := r5
      · exact (fw_nn_no h).elim
      replace h := fw_nn_so h
      refine aw_aald hK 9 (by decide) rfl dX0_copy_22 h (fun r7 h => ?_)
      obtain _ | j9 := r7
      · exact (fw_nn_no h).elim
      replace h := fw_nn_so h
      refine aw_gRN hK fw_c3 0 (by decide) rfl (fw_nsW hK hZ (w := Cond.fieldLinkNest "TugOfWar" 179 "TugOfWar$Sheet" "row" "Ljava/lang/Object;" "TugOfWar") (by decide)) (fun _ h9 => h9) dX0_copy_23 h (fun r8 h => ?_)
      refine aw_ifnull (tgt := 41) hK dX0_copy_26 (by decide) h (fun h => ?_) (fun h => ?_)
      · exact aw_sub [0] rfl (w_X0_copy_41 hK hZ htab hF h)
      · refine aw_aload_n hK 0 dX0_copy_29 rfl rfl ?_
        refine aw_gR hK fw_c0 24 (by decide) rfl q250 (fun _ h9 => h9) dX0_copy_30 h (fun r10 h => ?_)
        refine aw_iload_n hK 3 dX0_copy_33 rfl rfl ?_
        obtain _ | j11 := r10
        · exact (fw_nn_no h).elim
        replace h := fw_nn_so h
        refine aw_aald hK 9 (by decide) rfl dX0_copy_34 h (fun r12 h => ?_)
        obtain _ | j14 := r12
        · exact (fw_nn_no h).elim
        replace h := fw_nn_so h
        refine aw_gRN hK fw_c3 0 (by decide) rfl (fw_nsW hK hZ (w := Cond.fieldLinkNest "TugOfWar" 179 "TugOfWar$Sheet" "row" "Ljava/lang/Object;" "TugOfWar") (by decide)) (fun _ h9 => h9) dX0_copy_35 h (fun r13 h => ?_)
        refine aw_ifnonnull (tgt := 47) hK dX0_copy_38 (by decide) h (fun h => ?_) (fun h => ?_)
        · refine aw_aload_n hK 0 dX0_copy_47 rfl rfl ?_
          refine aw_gR hK fw_c0 24 (by decide) rfl q250 (fun _ h9 => h9) dX0_copy_48 h (fun r15 h => ?_)
          refine aw_iload_n hK 1 dX0_copy_51 rfl rfl ?_
          obtain _ | j16 := r15
          · exact (fw_nn_no h).elim
          replace h := fw_nn_so h
          refine aw_aald hK 9 (by decide) rfl dX0_copy_52 h (fun r17 h => ?_)
          obtain _ | j20 := r17
          · exact (fw_nn_no h).elim
          replace h := fw_nn_so h
          obtain ⟨hj, h⟩ := fw_is_h h
          refine aw_callV_i (n := 0) hK fw_c3 hj (fun _ _ _ _ q => fw_czx hZ (ct_X4_type q)) (lw_V q771 q765 q766 q101 q767) (by decide +kernel) (by decide) rfl rfl (Nat.le_of_ble_eq_true rfl) dX0_copy_53 h (fun v19 L18 _ _ h => ?_)
          refine aw_aload_n hK 0 dX0_copy_56 rfl rfl ?_
          refine aw_gR hK fw_c0 24 (by decide) rfl q250 (fun _ h9 => h9) dX0_copy_57 h (fun r21 h => ?_)
          refine aw_iload_n hK 3 dX0_copy_60 rfl rfl ?_
          obtain _ | j22 := r21
          · exact (fw_nn_no h).elim
          replace h := fw_nn_so h
          refine aw_aald hK 9 (by decide) rfl dX0_copy_61 h (fun r23 h => ?_)
          obtain _ | j26 := r23
          · exact (fw_nn_no h).elim
          replace h := fw_nn_so h
          obtain ⟨hj, h⟩ := fw_is_h h
          refine aw_callV_i (n := 0) hK fw_c3 hj (fun _ _ _ _ q => fw_czx hZ (ct_X4_type q)) (lw_V q771 q765 q766 q101 q767) (by decide +kernel) (by decide) rfl rfl (Nat.le_of_ble_eq_true rfl) dX0_copy_62 h (fun v25 L24 _ _ h => ?_)
          refine aw_icmp_eq (tgt := 74) hK dX0_copy_65 (by decide) h (fun h => ?_) (fun h => ?_)
          · refine aw_aload_n hK 0 dX0_copy_74 rfl rfl ?_
            refine aw_gR hK fw_c0 24 (by decide) rfl q250 (fun _ h9 => h9) dX0_copy_75 h (fun r27 h => ?_)
            refine aw_iload_n hK 1 dX0_copy_78 rfl rfl ?_
            obtain _ | j28 := r27
            · exact (fw_nn_no h).elim
            replace h := fw_nn_so h
            refine aw_aald hK 9 (by decide) rfl dX0_copy_79 h (fun r29 h => ?_)
            obtain _ | j31 := r29
            · exact (fw_nn_no h).elim
            replace h := fw_nn_so h
            refine aw_gRN hK fw_c3 0 (by decide) rfl (fw_nsW hK hZ (w := Cond.fieldLinkNest "TugOfWar" 179 "TugOfWar$Sheet" "row" "Ljava/lang/Object;" "TugOfWar") (by decide)) (fun _ h9 => h9) dX0_copy_80 h (fun r30 h => ?_)
            refine aw_iload_n hK 2 dX0_copy_83 rfl rfl ?_
            refine aw_aload_n hK 0 dX0_copy_84 rfl rfl ?_
            refine aw_gR hK fw_c0 24 (by decide) rfl q250 (fun _ h9 => h9) dX0_copy_85 h (fun r32 h => ?_)
            refine aw_iload_n hK 3 dX0_copy_88 rfl rfl ?_
            obtain _ | j33 := r32
            · exact (fw_nn_no h).elim
            replace h := fw_nn_so h
            refine aw_aald hK 9 (by decide) rfl dX0_copy_89 h (fun r34 h => ?_)
            obtain _ | j36 := r34
            · exact (fw_nn_no h).elim
            replace h := fw_nn_so h
            refine aw_gRN hK fw_c3 0 (by decide) rfl (fw_nsW hK hZ (w := Cond.fieldLinkNest "TugOfWar" 179 "TugOfWar$Sheet" "row" "Ljava/lang/Object;" "TugOfWar") (by decide)) (fun _ h9 => h9) dX0_copy_90 h (fun r35 h => ?_)
            refine aw_iload hK 4 dX0_copy_93 rfl ?_
            refine aw_iload hK 5 dX0_copy_95 rfl ?_
            obtain _ | j37 := r30
            · exact (fw_nn_no h).elim
            replace h := fw_nn_so h
            obtain _ | j38 := r35
            · exact (fw_nn_no h).elim
            replace h := fw_nn_so h
            refine aw_copyX hK hZ q873 q635 q634 q115 dX0_copy_97 ⟨by decide, by decide, Nat.le_of_ble_eq_true rfl⟩ (Nat.le_of_ble_eq_true rfl) h (fun _ _ h => ?_) (fun L39 h => ?_)
            · rcases fw_tE_h h with ⟨-, h⟩ | h
              · refine ax_catchE hK hZ (E := nAI) (pre := []) (name := "java/lang/IndexOutOfBoundsException") (i := 6) htab (fun z hz => by cases hz) (by decide) (by decide) q1145 (by decide) dX0_copy_102 (by decide) rfl ?_
                refine aw_aload_n hK 0 dX0_copy_104 rfl rfl ?_
                refine aw_iconst (v := (nI 2)) hK dX0_copy_105 rfl ?_
                obtain ⟨hj, h⟩ := fw_is_h h
                refine aw_callV_i (n := 1) hK fw_c0 hj (fun _ _ _ _ q => fw_czx hZ (ct_X0_met q)) (lw_V q756 q758 qs8 q94 q759) (by decide +kernel) (by decide) rfl rfl (Nat.le_of_ble_eq_true rfl) dX0_copy_106 h (fun v41 L40 _ _ h => ?_)
                exact aw_iret hK dX0_copy_109 h hF
              · skip
                exact (fw_no h).elim
            refine aw_iconst (v := (nI 1)) hK dX0_copy_100 rfl ?_
            exact aw_iret hK dX0_copy_101 h hF
          · refine aw_aload_n hK 0 dX0_copy_68 rfl rfl ?_
            refine aw_iconst (v := (nI 4)) hK dX0_copy_69 rfl ?_
            obtain ⟨hj, h⟩ := fw_is_h h
            refine aw_callV_i (n := 1) hK fw_c0 hj (fun _ _ _ _ q => fw_czx hZ (ct_X0_met q)) (lw_V q756 q758 qs8 q94 q759) (by decide +kernel) (by decide) rfl rfl (Nat.le_of_ble_eq_true rfl) dX0_copy_70 h (fun v43 L42 _ _ h => ?_)
            exact aw_iret hK dX0_copy_73 h hF
        · exact aw_sub [0] rfl (w_X0_copy_41 hK hZ htab hF h)
    · refine aw_bipush (v := (-nI 2)) hK dX0_copy_14 rfl ?_
      exact aw_iret hK dX0_copy_16 h hF
theorem ct_X0_copy {j0 : Nat} {x1 : Int32} {x2 : Int32} {x3 : Int32} {x4 : Int32} {x5 : Int32} {L : LH} {r9 : Int32} {L9 : LH} {mc ms : Nat} (h : f_X0_copy j0 x1 x2 x3 x4 x5 L = some (r9, L9, mc, ms)) : fw_Cx yX0_copy (wsW_ yX0_copy cX0_copy 7 (some (.int)) [(74, 101, 102, 414)]) 9 10248 [aR (some j0), aI x1, aI x2, aI x3, aI x4, aI x5] L (some (aI r9)) L9 mc ms :=
  fun b1 b2 => ct_ofT (own := RX0) fw_ZX_ok (by decide +kernel) rfl (Nat.le_of_ble_eq_true rfl) (fun K hZ hK hF htab => w_X0_copy_0 hK ⟨b1, b2, hZ⟩ htab hF h)
def f_X0_typedIn_4 : Nat → Nat → Int32 → Int32 → LH → Rs Int32
  | 0, _, _, _, _ => none
  | n + 1, j0, x1, x2, L =>
    fw_gR 1 L j0 3 fun r1 =>
    fw_nn r1 fun j2 =>
    fw_al L j2 fun v4 =>
    if v4 ≤ x2 then (
      some (x1, L, 0, 0)
    ) else (
      fw_gR 1 L j0 3 fun r5 =>
      fw_nn r5 fun j6 =>
      fw_rq 108 L j6 x2 fun r7 =>
      fw_nn r7 fun j10 =>
      fw_cl (fw_td L j10 (f_X1_length j10 L) (f_X1_length j10 L)) fun v9 L8 =>
      f_X0_typedIn_4 n j0 (x1 + v9) (x2 + (nI 1)) L8
    )
def f_X0_typedIn (j0 : Nat) (L : LH) : Rs Int32 :=
  f_X0_typedIn_4 fw_fuel j0 (nI 0) (nI 0) L
set_option maxHeartbeats 4000000 in
set_option maxRecDepth 100000 in
theorem w_X0_typedIn_4 {K : Kx} {r9 : Int32} {L9 : LH} (hK : Ok K cX0_typedIn 3 RX0 1 20) (hZ : fw_isZ K) (hF : Fin K (some (.int)) (some (aI r9)) L9) : ∀ {n : Nat} {j0 : Nat} {x1 : Int32} {x2 : Int32} {L : LH} {mc ms : Nat}, f_X0_typedIn_4 n j0 x1 x2 L = some (r9, L9, mc, ms) → AW K L mc ms 4 [(0, aR (some j0)), (1, aI x1), (2, aI x2)] [] := by
  intro n
  induction n with
  | zero =>
    intro j0 x1 x2 L mc ms h
    have h : (none : Rs Int32) = some (r9, L9, mc, ms) := h
    cases h
  | succ n ih =>
    intro j0 x1 x2 L mc ms h
    unfold f_X0_typedIn_4 at h
    refine aw_iload_n hK 2 dX0_typedIn_4 rfl rfl ?_
    refine aw_aload_n hK 0 dX0_typedIn_5 rfl rfl ?_
    refine aw_gR hK fw_c0 3 (by decide) rfl q229 (fun _ h9 => h9) dX0_typedIn_6 h (fun r1 h => ?_)
    obtain _ | j2 := r1
    · exact (fw_nn_no h).elim
    replace h := fw_nn_so h
    refine aw_alv hK dX0_typedIn_9 h (fun v4 h => ?_)
    refine aw_icmp_ge (tgt := 31) hK dX0_typedIn_10 (by decide) h (fun h => ?_) (fun h => ?_)
    · refine aw_iload_n hK 1 dX0_typedIn_31 rfl rfl ?_
      exact aw_iret hK dX0_typedIn_32 h hF
    · refine aw_iload_n hK 1 dX0_typedIn_13 rfl rfl ?_
      refine aw_aload_n hK 0 dX0_typedIn_14 rfl rfl ?_
      refine aw_gR hK fw_c0 3 (by decide) rfl q229 (fun _ h9 => h9) dX0_typedIn_15 h (fun r5 h => ?_)
      refine aw_iload_n hK 2 dX0_typedIn_18 rfl rfl ?_
      obtain _ | j6 := r5
      · exact (fw_nn_no h).elim
      replace h := fw_nn_so h
      refine aw_aald hK 8 (by decide) rfl dX0_typedIn_19 h (fun r7 h => ?_)
      obtain _ | j10 := r7
      · exact (fw_nn_no h).elim
      replace h := fw_nn_so h
      refine aw_callQ_i hK (fun _ _ _ _ q => fw_td_c q (fun hj q => rq_U (n := 0) hK (fw_rcvW hK fw_c1 hj) (fw_czx hZ (ct_X1_length q)) (lw_U q1166 q1168 q1170 q1167 q95 q1171) rfl (by decide +kernel) (by decide) rfl rfl (Nat.le_of_ble_eq_true rfl) dX0_typedIn_20) (fun hj q => rq_U (n := 0) hK (fw_rcvW hK fw_c2 hj) (fw_czx hZ (ct_X1_length q)) (lw_U q1166 q1168 q1169 q1167 q95 q1171) rfl (by decide +kernel) (by decide) rfl rfl (Nat.le_of_ble_eq_true rfl) dX0_typedIn_20)) (fw_mt (n := 1) rfl) h (fun v9 L8 _ _ h => ?_)
      refine aw_iadd hK dX0_typedIn_23 ?_
      refine aw_istore_n (lv' := [(1, aI (x1 + v9)), (0, aR (some j0)), (2, aI x2)]) hK dX0_typedIn_24 rfl (by decide) rfl ?_
      refine aw_iinc (v := (x2 + (nI 1))) (lv' := [(2, aI (x2 + (nI 1))), (1, aI (x1 + v9)), (0, aR (some j0))]) hK 2 dX0_typedIn_25 rfl rfl (by decide) rfl ?_
      refine aw_goto (tgt := 4) hK dX0_typedIn_28 (by decide) ?_
      exact aw_sub [2, 1, 0] rfl (ih h)
set_option maxHeartbeats 4000000 in
set_option maxRecDepth 100000 in
theorem w_X0_typedIn_0 {K : Kx} {r9 : Int32} {L9 : LH} (hK : Ok K cX0_typedIn 3 RX0 1 20) (hZ : fw_isZ K) (hF : Fin K (some (.int)) (some (aI r9)) L9) {j0 : Nat} {L : LH} {mc ms : Nat} (h : f_X0_typedIn j0 L = some (r9, L9, mc, ms)) : AW K L mc ms 0 [(0, aR (some j0))] [] := by
  unfold f_X0_typedIn at h
  refine aw_iconst (v := (nI 0)) hK dX0_typedIn_0 rfl ?_
  refine aw_istore_n (lv' := [(1, aI (nI 0)), (0, aR (some j0))]) hK dX0_typedIn_1 rfl (by decide) rfl ?_
  refine aw_iconst (v := (nI 0)) hK dX0_typedIn_2 rfl ?_
  refine aw_istore_n (lv' := [(2, aI (nI 0)), (1, aI (nI 0)), (0, aR (some j0))]) hK dX0_typedIn_3 rfl (by decide) rfl ?_
  exact aw_sub [2, 1, 0] rfl (w_X0_typedIn_4 hK hZ hF h)
theorem ct_X0_typedIn {j0 : Nat} {L : LH} {r9 : Int32} {L9 : LH} {mc ms : Nat} (h : f_X0_typedIn j0 L = some (r9, L9, mc, ms)) : fw_Cx yX0_typedIn (ws_ yX0_typedIn cX0_typedIn 3 (some (.int))) 1 20 [aR (some j0)] L (some (aI r9)) L9 mc ms :=
  fun b1 b2 => ct_of (own := RX0) fw_ZX_ok (by decide +kernel) rfl (Nat.le_of_ble_eq_true rfl) (fun K hZ hK hF hini => w_X0_typedIn_0 hK ⟨b1, b2, hZ⟩ hF h)
def f_J2_grow (j0 : Nat) (L : LH) : Rs (Option Nat) :=
  fw_gI 5 L j0 2 fun v1 =>
  fw_is 5 L j0 <|
  fw_cl (f_J2_grow_2 j0 (v1 + (nI 1)) L) fun r3 L2 =>
  some (r3, L2, 0, 0)
set_option maxHeartbeats 4000000 in
set_option maxRecDepth 100000 in
theorem w_J2_grow_0 {K : Kx} {r9 : (Option Nat)} {L9 : LH} (hK : Ok K cJ2_grow 1 RJ2 2 47) (hZ : fw_isZ K) (hF : Fin K (some (.array (.object "java/lang/Object"))) (some (aR r9)) L9) {j0 : Nat} {L : LH} {mc ms : Nat} (h : f_J2_grow j0 L = some (r9, L9, mc, ms)) : AW K L mc ms 0 [(0, aR (some j0))] [] := by
  unfold f_J2_grow at h
  refine aw_aload_n hK 0 dJ2_grow_0 rfl rfl ?_
  refine aw_aload_n hK 0 dJ2_grow_1 rfl rfl ?_
  refine aw_gI hK fw_c4 2 (by decide) rfl q155 (fun _ h9 => h9) dJ2_grow_2 h (fun v1 h => ?_)
  refine aw_iconst (v := (nI 1)) hK dJ2_grow_5 rfl ?_
  refine aw_iadd hK dJ2_grow_6 ?_
  obtain ⟨hj, h⟩ := fw_is_h h
  refine aw_callV_r (n := 1) hK fw_c4 hj (fun _ _ _ _ q => fw_czx hZ (ct_J2_grow_2 q)) (lw_V q593 q595 qs3 q99 q596) (by decide +kernel) (by decide) rfl rfl (Nat.le_of_ble_eq_true rfl) dJ2_grow_7 h (fun r3 L2 _ _ h => ?_)
  exact aw_aret hK rfl dJ2_grow_10 h hF
theorem ct_J2_grow {j0 : Nat} {L : LH} {r9 : (Option Nat)} {L9 : LH} {mc ms : Nat} (h : f_J2_grow j0 L = some (r9, L9, mc, ms)) : fw_Cx yJ2_grow (ws_ yJ2_grow cJ2_grow 1 (some (.array (.object "java/lang/Object")))) 2 47 [aR (some j0)] L (some (aR r9)) L9 mc ms :=
  fun b1 b2 => ct_of (own := RJ2) fw_ZX_ok (by decide +kernel) rfl (Nat.le_of_ble_eq_true rfl) (fun K hZ hK hF hini => w_J2_grow_0 hK ⟨b1, b2, hZ⟩ hF h)
def f_J2_get (j0 : Nat) (x1 : Int32) (L : LH) : Rs (Option Nat) :=
  fw_gI 5 L j0 2 fun v1 =>
  fw_cl (f_J13_checkIndex x1 v1 L) fun v3 L2 =>
  fw_is 5 L2 j0 <|
  fw_cl (f_J2_elementData j0 x1 L2) fun r5 L4 =>
  some (r5, L4, 0, 0)
set_option maxHeartbeats 4000000 in
set_option maxRecDepth 100000 in
theorem w_J2_get_0 {K : Kx} {r9 : (Option Nat)} {L9 : LH} (hK : Ok K cJ2_get 2 RJ2 2 43) (hZ : fw_isZ K) (hF : Fin K (some (.object "java/lang/Object")) (some (aR r9)) L9) {j0 : Nat} {x1 : Int32} {L : LH} {mc ms : Nat} (h : f_J2_get j0 x1 L = some (r9, L9, mc, ms)) : AW K L mc ms 0 [(0, aR (some j0)), (1, aI x1)] [] := by
  unfold f_J2_get at h
  refine aw_iload_n hK 1 dJ2_get_0 rfl rfl ?_
  refine aw_aload_n hK 0 dJ2_get_1 rfl rfl ?_
  refine aw_gI hK fw_c4 2 (by decide) rfl q155 (fun _ h9 => h9) dJ2_get_2 h (fun v1 h => ?_)
  refine aw_callS_i (n := 2) hK (fun _ _ _ _ q => fw_czx hZ (ct_J13_checkIndex q)) (lw_S q673 q674 q116 q675) (by decide +kernel) (by decide) rfl rfl (Nat.le_of_ble_eq_true rfl) dJ2_get_5 h (fun v3 L2 _ _ h => ?_)
  refine aw_pop hK dJ2_get_8 rfl ?_
  refine aw_aload_n hK 0 dJ2_get_9 rfl rfl ?_
  refine aw_iload_n hK 1 dJ2_get_10 rfl rfl ?_
  obtain ⟨hj, h⟩ := fw_is_h h
  refine aw_callV_r (n := 1) hK fw_c4 hj (fun _ _ _ _ q => fw_czx hZ (ct_J2_elementData q)) (lw_V q679 q680 q681 q99 q682) (by decide +kernel) (by decide) rfl rfl (Nat.le_of_ble_eq_true rfl) dJ2_get_11 h (fun r5 L4 _ _ h => ?_)
  exact aw_aret hK rfl dJ2_get_14 h hF
theorem ct_J2_get {j0 : Nat} {x1 : Int32} {L : LH} {r9 : (Option Nat)} {L9 : LH} {mc ms : Nat} (h : f_J2_get j0 x1 L = some (r9, L9, mc, ms)) : fw_Cx yJ2_get (ws_ yJ2_get cJ2_get 2 (some (.object "java/lang/Object"))) 2 43 [aR (some j0), aI x1] L (some (aR r9)) L9 mc ms :=
  fun b1 b2 => ct_of (own := RJ2) fw_ZX_ok (by decide +kernel) rfl (Nat.le_of_ble_eq_true rfl) (fun K hZ hK hF hini => w_J2_get_0 hK ⟨b1, b2, hZ⟩ hF h)
def f_J2_remove (j0 : Nat) (x1 : Int32) (L : LH) : Rs (Option Nat) :=
  fw_gI 5 L j0 2 fun v1 =>
  fw_cl (f_J13_checkIndex x1 v1 L) fun v3 L2 =>
  fw_gR 5 L2 j0 1 fun r4 =>
  fw_nn r4 fun j5 =>
  fw_rq 105 L2 j5 x1 fun r6 =>
  fw_is 5 L2 j0 <|
  fw_cl (f_J2_fastRemove j0 (some j5) x1 L2) fun _ L7 =>
  some (r6, L7, 0, 0)
set_option maxHeartbeats 4000000 in
set_option maxRecDepth 100000 in
theorem w_J2_remove_0 {K : Kx} {r9 : (Option Nat)} {L9 : LH} (hK : Ok K cJ2_remove 4 RJ2 2 43) (hZ : fw_isZ K) (hF : Fin K (some (.object "java/lang/Object")) (some (aR r9)) L9) {j0 : Nat} {x1 : Int32} {L : LH} {mc ms : Nat} (h : f_J2_remove j0 x1 L = some (r9, L9, mc, ms)) : AW K L mc ms 0 [(0, aR (some j0)), (1, aI x1)] [] := by
  unfold f_J2_remove at h
  refine aw_iload_n hK 1 dJ2_remove_0 rfl rfl ?_
  refine aw_aload_n hK 0 dJ2_remove_1 rfl rfl ?_
  refine aw_gI hK fw_c4 2 (by decide) rfl q155 (fun _ h9 => h9) dJ2_remove_2 h (fun v1 h => ?_)
  refine aw_callS_i (n := 2) hK (fun _ _ _ _ q => fw_czx hZ (ct_J13_checkIndex q)) (lw_S q673 q674 q116 q675) (by decide +kernel) (by decide) rfl rfl (Nat.le_of_ble_eq_true rfl) dJ2_remove_5 h (fun v3 L2 _ _ h => ?_)
  refine aw_pop hK dJ2_remove_8 rfl ?_
  refine aw_aload_n hK 0 dJ2_remove_9 rfl rfl ?_
  refine aw_gR hK fw_c4 1 (by decide) rfl q154 (fun _ h9 => h9) dJ2_remove_10 h (fun r4 h => ?_)
  refine aw_astore_n (lv' := [(2, aR r4), (0, aR (some j0)), (1, aI x1)]) hK dJ2_remove_13 rfl (by decide) rfl ?_
  refine aw_aload_n hK 0 dJ2_remove_14 rfl rfl ?_
  refine aw_iload_n hK 2 dJ2_remove_15 rfl rfl ?_
  obtain _ | j5 := r4
  · exact (fw_nn_no h).elim
  replace h := fw_nn_so h
  refine aw_aald hK 5 (by decide) rfl dJ2_remove_16 h (fun r6 h => ?_)
  refine aw_astore_n (lv' := [(3, aR r6), (2, aR (some j5)), (0, aR (some j0)), (1, aI x1)]) hK dJ2_remove_17 rfl (by decide) rfl ?_
  refine aw_aload_n hK 2 dJ2_remove_18 rfl rfl ?_
  refine aw_aload_n hK 1 dJ2_remove_19 rfl rfl ?_
  refine aw_iload_n hK 3 dJ2_remove_20 rfl rfl ?_
  obtain ⟨hj, h⟩ := fw_is_h h
  refine aw_callV_v (n := 2) hK fw_c4 hj (fun _ _ _ _ q => fw_czx hZ (ct_J2_fastRemove q)) (lw_V q744 q746 qs7 q99 q747) (by decide +kernel) (by decide) rfl rfl (Nat.le_of_ble_eq_true rfl) dJ2_remove_21 h (fun _ L7 _ _ h => ?_)
  refine aw_aload_n hK 0 dJ2_remove_24 rfl rfl ?_
  exact aw_aret hK rfl dJ2_remove_25 h hF
theorem ct_J2_remove {j0 : Nat} {x1 : Int32} {L : LH} {r9 : (Option Nat)} {L9 : LH} {mc ms : Nat} (h : f_J2_remove j0 x1 L = some (r9, L9, mc, ms)) : fw_Cx yJ2_remove (ws_ yJ2_remove cJ2_remove 4 (some (.object "java/lang/Object"))) 2 43 [aR (some j0), aI x1] L (some (aR r9)) L9 mc ms :=
  fun b1 b2 => ct_of (own := RJ2) fw_ZX_ok (by decide +kernel) rfl (Nat.le_of_ble_eq_true rfl) (fun K hZ hK hF hini => w_J2_remove_0 hK ⟨b1, b2, hZ⟩ hF h)
def f_J6_length (j0 : Nat) (L : LH) : Rs Int32 :=
  fw_sv j0 fun r1 =>
  fw_nn r1 fun j2 =>
  fw_sn j2 fun v4 =>
  fw_iss j0 <|
  fw_cl (f_J6_coder j0 L) fun v6 L5 =>
  some ((v4 >>> (v6 &&& 31)), L5, 0, 0)
set_option maxHeartbeats 4000000 in
set_option maxRecDepth 100000 in
theorem w_J6_length_0 {K : Kx} {r9 : Int32} {L9 : LH} (hK : Ok K cJ6_length 1 RJ6 1 20) (hZ : fw_isZ K) (hF : Fin K (some (.int)) (some (aI r9)) L9) {j0 : Nat} {L : LH} {mc ms : Nat} (h : f_J6_length j0 L = some (r9, L9, mc, ms)) : AW K L mc ms 0 [(0, aR (some j0))] [] := by
  unfold f_J6_length at h
  refine aw_aload_n hK 0 dJ6_length_0 rfl rfl ?_
  refine aw_sv hK hZ q1759 (fun _ h9 => h9) dJ6_length_1 h (fun r1 h => ?_)
  obtain _ | j2 := r1
  · exact (fw_nn_no h).elim
  replace h := fw_nn_so h
  refine aw_sn hK hZ dJ6_length_4 h (fun v4 h => ?_)
  refine aw_aload_n hK 0 dJ6_length_5 rfl rfl ?_
  obtain ⟨hj, h⟩ := fw_if_h h
  refine aw_callQ_i hK (fun _ _ _ _ q => rq_V (n := 0) hK (fw_rcvS hK hZ hj) (fw_czx hZ (ct_J6_coder q)) (lw_V q484 q485 q486 q107 q487) (by decide +kernel) (by decide) rfl rfl (Nat.le_of_ble_eq_true rfl) dJ6_length_6) (fw_mt (n := 1) rfl) h (fun v6 L5 _ _ h => ?_)
  refine aw_ishr hK dJ6_length_9 ?_
  exact aw_iret hK dJ6_length_10 h hF
theorem ct_J6_length {j0 : Nat} {L : LH} {r9 : Int32} {L9 : LH} {mc ms : Nat} (h : f_J6_length j0 L = some (r9, L9, mc, ms)) : fw_Cx yJ6_length (ws_ yJ6_length cJ6_length 1 (some (.int))) 1 20 [aR (some j0)] L (some (aI r9)) L9 mc ms :=
  fun b1 b2 => ct_of (own := RJ6) fw_ZX_ok (by decide +kernel) rfl (Nat.le_of_ble_eq_true rfl) (fun K hZ hK hF hini => w_J6_length_0 hK ⟨b1, b2, hZ⟩ hF h)
def f_J7_indexOf (rp0 : Option Nat) (x1 : Int32) (x2 : Int32) (x3 : Int32) (L : LH) : Rs Int32 :=
  fw_cl (f_J7_canEncode x1 L) fun v2 L1 =>
  if v2 = 0 then (
    some ((-nI 1), L1, 0, 0)
  ) else (
    fw_nn rp0 fun j3 =>
    fw_sn j3 fun v5 =>
    if (fw_max x2 (nI 0)) < (fw_min x3 v5) then (
      fw_cl (f_J7_indexOfChar (some j3) x1 (fw_max x2 (nI 0)) (fw_min x3 v5) L1) fun v7 L6 =>
      some (v7, L6, 0, 0)
    ) else (
      some ((-nI 1), L1, 0, 0)
    )
  )
set_option maxHeartbeats 4000000 in
set_option maxRecDepth 100000 in
theorem w_J7_indexOf_0 {K : Kx} {r9 : Int32} {L9 : LH} (hK : Ok K cJ7_indexOf 4 RJ7 1 25) (hZ : fw_isZ K) (hF : Fin K (some (.int)) (some (aI r9)) L9) {rp0 : Option Nat} {x1 : Int32} {x2 : Int32} {x3 : Int32} {L : LH} {mc ms : Nat} (h : f_J7_indexOf rp0 x1 x2 x3 L = some (r9, L9, mc, ms)) : AW K L mc ms 0 [(0, aR rp0), (1, aI x1), (2, aI x2), (3, aI x3)] [] := by
  unfold f_J7_indexOf at h
  refine aw_iload_n hK 1 dJ7_indexOf_0 rfl rfl ?_
  refine aw_callS_i (n := 1) hK (fun _ _ _ _ q => fw_czx hZ (ct_J7_canEncode q)) (lw_S q491 q492 q108 q493) (by decide +kernel) (by decide) rfl rfl (Nat.le_of_ble_eq_true rfl) dJ7_indexOf_1 h (fun v2 L1 _ _ h => ?_)
  refine aw_if_ne (tgt := 9) hK dJ7_indexOf_4 (by decide) h (fun h => ?_) (fun h => ?_)
  · refine aw_iload_n hK 2 dJ7_indexOf_9 rfl rfl ?_
    refine aw_iconst (v := (nI 0)) hK dJ7_indexOf_10 rfl ?_
    refine aw_max hK q494 q495 q109 q496 dJ7_indexOf_11 ⟨by decide, Nat.le_of_ble_eq_true rfl⟩ ?_
    refine aw_istore_n (lv' := [(2, aI (fw_max x2 (nI 0))), (0, aR rp0), (1, aI x1), (3, aI x3)]) hK dJ7_indexOf_14 rfl (by decide) rfl ?_
    refine aw_iload_n hK 3 dJ7_indexOf_15 rfl rfl ?_
    refine aw_aload_n hK 1 dJ7_indexOf_16 rfl rfl ?_
    obtain _ | j3 := rp0
    · exact (fw_nn_no h).elim
    replace h := fw_nn_so h
    refine aw_sn hK hZ dJ7_indexOf_17 h (fun v5 h => ?_)
    refine aw_min hK q497 q498 q109 q499 dJ7_indexOf_18 ⟨by decide, Nat.le_of_ble_eq_true rfl⟩ ?_
    refine aw_istore_n (lv' := [(3, aI (fw_min x3 v5)), (2, aI (fw_max x2 (nI 0))), (0, aR (some j3)), (1, aI x1)]) hK dJ7_indexOf_21 rfl (by decide) rfl ?_
    refine aw_iload_n hK 1 dJ7_indexOf_22 rfl rfl ?_
    refine aw_iload_n hK 0 dJ7_indexOf_23 rfl rfl ?_
    refine aw_icmp_lt (tgt := 29) hK dJ7_indexOf_24 (by decide) h (fun h => ?_) (fun h => ?_)
    · refine aw_aload_n hK 2 dJ7_indexOf_29 rfl rfl ?_
      refine aw_iload_n hK 3 dJ7_indexOf_30 rfl rfl ?_
      refine aw_iload_n hK 1 dJ7_indexOf_31 rfl rfl ?_
      refine aw_iload_n hK 0 dJ7_indexOf_32 rfl rfl ?_
      refine aw_callS_i (n := 4) hK (fun _ _ _ _ q => fw_czx hZ (ct_J7_indexOfChar q)) (lw_S q500 q501 q108 q502) (by decide +kernel) (by decide) rfl rfl (Nat.le_of_ble_eq_true rfl) dJ7_indexOf_33 h (fun v7 L6 _ _ h => ?_)
      exact aw_iret hK dJ7_indexOf_36 h hF
    · refine aw_iconst (v := (-nI 1)) hK dJ7_indexOf_27 rfl ?_
      exact aw_iret hK dJ7_indexOf_28 h hF
  · refine aw_iconst (v := (-nI 1)) hK dJ7_indexOf_7 rfl ?_
    exact aw_iret hK dJ7_indexOf_8 h hF
theorem ct_J7_indexOf {rp0 : Option Nat} {x1 : Int32} {x2 : Int32} {x3 : Int32} {L : LH} {r9 : Int32} {L9 : LH} {mc ms : Nat} (h : f_J7_indexOf rp0 x1 x2 x3 L = some (r9, L9, mc, ms)) : fw_Cx yJ7_indexOf (ws_ yJ7_indexOf cJ7_indexOf 4 (some (.int))) 1 25 [aR rp0, aI x1, aI x2, aI x3] L (some (aI r9)) L9 mc ms :=
  fun b1 b2 => ct_of (own := RJ7) fw_ZX_ok (by decide +kernel) rfl (Nat.le_of_ble_eq_true rfl) (fun K hZ hK hF hini => w_J7_indexOf_0 hK ⟨b1, b2, hZ⟩ hF h)
def f_X4_size (j0 : Nat) (L : LH) : Rs Int32 :=
  fw_is 4 L j0 <|
  fw_cl (f_X4_type j0 L) fun v2 L1 =>
  if v2 = (nI 0) then (
    fw_gR 4 L1 j0 0 fun r3 =>
    fw_ck 101 L1 r3 <|
    fw_nn r3 fun j4 =>
    fw_al L1 j4 fun v6 =>
    some (v6, L1, 0, 0)
  ) else (
    if v2 = (nI 1) then (
      fw_gR 4 L1 j0 0 fun r7 =>
      fw_ck 102 L1 r7 <|
      fw_nn r7 fun j8 =>
      fw_al L1 j8 fun v10 =>
      some (v10, L1, 0, 0)
    ) else (
      fw_gR 4 L1 j0 0 fun r11 =>
      fw_ck 100 L1 r11 <|
      fw_nn r11 fun j12 =>
      fw_al L1 j12 fun v14 =>
      some (v14, L1, 0, 0)
    )
  )
set_option maxHeartbeats 4000000 in
set_option maxRecDepth 100000 in
theorem w_X4_size_0 {K : Kx} {r9 : Int32} {L9 : LH} (hK : Ok K cX4_size 1 RX4 1 20) (hZ : fw_isZ K) (hF : Fin K (some (.int)) (some (aI r9)) L9) {j0 : Nat} {L : LH} {mc ms : Nat} (h : f_X4_size j0 L = some (r9, L9, mc, ms)) : AW K L mc ms 0 [(0, aR (some j0))] [] := by
  unfold f_X4_size at h
  refine aw_aload_n hK 0 dX4_size_0 rfl rfl ?_
  obtain ⟨hj, h⟩ := fw_is_h h
  refine aw_callV_i (n := 0) hK fw_c3 hj (fun _ _ _ _ q => fw_czx hZ (ct_X4_type q)) (lw_V q764 q765 q766 q101 q767) (by decide +kernel) (by decide) rfl rfl (Nat.le_of_ble_eq_true rfl) dX4_size_1 h (fun v2 L1 _ _ h => ?_)
  by_cases c0 : v2 = (nI 0)
  · rw [if_pos c0] at h
    refine aw_lookIn (tgt := 32) hK dX4_size_4 c0 rfl rfl (by decide) ?_
    refine aw_aload_n hK 0 dX4_size_32 rfl rfl ?_
    refine aw_gR hK fw_c3 0 (by decide) rfl q221 (fun _ h9 => h9) dX4_size_33 h (fun r3 h => ?_)
    refine aw_cka hK 1 (by decide) rfl q768 dX4_size_36 h (fun h => ?_)
    obtain _ | j4 := r3
    · exact (fw_nn_no h).elim
    replace h := fw_nn_so h
    refine aw_alv hK dX4_size_39 h (fun v6 h => ?_)
    exact aw_iret hK dX4_size_40 h hF
  · rw [if_neg c0] at h
    by_cases c1 : v2 = (nI 1)
    · rw [if_pos c1] at h
      refine aw_lookIn (tgt := 41) hK dX4_size_4 c1 rfl rfl (by decide) ?_
      refine aw_aload_n hK 0 dX4_size_41 rfl rfl ?_
      refine aw_gR hK fw_c3 0 (by decide) rfl q221 (fun _ h9 => h9) dX4_size_42 h (fun r7 h => ?_)
      refine aw_cka hK 2 (by decide) rfl q769 dX4_size_45 h (fun h => ?_)
      obtain _ | j8 := r7
      · exact (fw_nn_no h).elim
      replace h := fw_nn_so h
      refine aw_alv hK dX4_size_48 h (fun v10 h => ?_)
      exact aw_iret hK dX4_size_49 h hF
    · rw [if_neg c1] at h
      refine aw_lookOut (tgt := 50) (off := 46) hK dX4_size_4 rfl ?_ (by decide) ?_
      · exact (lv_osw c0 rfl).trans ((lv_osw c1 rfl).trans (rfl))
      · refine aw_aload_n hK 0 dX4_size_50 rfl rfl ?_
        refine aw_gR hK fw_c3 0 (by decide) rfl q221 (fun _ h9 => h9) dX4_size_51 h (fun r11 h => ?_)
        refine aw_cka hK 0 (by decide) rfl q770 dX4_size_54 h (fun h => ?_)
        obtain _ | j12 := r11
        · exact (fw_nn_no h).elim
        replace h := fw_nn_so h
        refine aw_alv hK dX4_size_57 h (fun v14 h => ?_)
        exact aw_iret hK dX4_size_58 h hF
theorem ct_X4_size {j0 : Nat} {L : LH} {r9 : Int32} {L9 : LH} {mc ms : Nat} (h : f_X4_size j0 L = some (r9, L9, mc, ms)) : fw_Cx yX4_size (ws_ yX4_size cX4_size 1 (some (.int))) 1 20 [aR (some j0)] L (some (aI r9)) L9 mc ms :=
  fun b1 b2 => ct_of (own := RX4) fw_ZX_ok (by decide +kernel) rfl (Nat.le_of_ble_eq_true rfl) (fun K hZ hK hF hini => w_X4_size_0 hK ⟨b1, b2, hZ⟩ hF h)
def f_X7_by (j0 : Nat) (x1 : Int32) (L : LH) : Rs Int32 :=
  if x1 = 0 then (
    fw_gR 6 L j0 0 fun r3 =>
    fw_nn r3 fun j6 =>
    fw_cl (fw_sd j6 (f_X10_number j6 L) (f_X9_number j6 L) (f_X8_number j6 L)) fun v5 L4 =>
    some (v5, L4, 0, 0)
  ) else (
    if x1 = (nI 1) then (
      fw_gI 6 L j0 1 fun v2 =>
      some (v2, L, 0, 0)
    ) else (
      fw_gI 6 L j0 2 fun v1 =>
      some (v1, L, 0, 0)
    )
  )
set_option maxHeartbeats 4000000 in
set_option maxRecDepth 100000 in
theorem w_X7_by_0 {K : Kx} {r9 : Int32} {L9 : LH} (hK : Ok K cX7_by 2 RX7 2 40) (hZ : fw_isZ K) (hF : Fin K (some (.int)) (some (aI r9)) L9) {j0 : Nat} {x1 : Int32} {L : LH} {mc ms : Nat} (h : f_X7_by j0 x1 L = some (r9, L9, mc, ms)) : AW K L mc ms 0 [(0, aR (some j0)), (1, aI x1)] [] := by
  unfold f_X7_by at h
  refine aw_iload_n hK 1 dX7_by_0 rfl rfl ?_
  refine aw_if_ne (tgt := 14) hK dX7_by_1 (by decide) h (fun h => ?_) (fun h => ?_)
  · refine aw_iload_n hK 1 dX7_by_14 rfl rfl ?_
    refine aw_iconst (v := (nI 1)) hK dX7_by_15 rfl ?_
    refine aw_icmp_ne (tgt := 26) hK dX7_by_16 (by decide) h (fun h => ?_) (fun h => ?_)
    · refine aw_aload_n hK 0 dX7_by_26 rfl rfl ?_
      refine aw_gI hK fw_c5 2 (by decide) rfl q572 (fun _ h9 => h9) dX7_by_27 h (fun v1 h => ?_)
      exact aw_iret hK dX7_by_30 h hF
    · refine aw_aload_n hK 0 dX7_by_19 rfl rfl ?_
      refine aw_gI hK fw_c5 1 (by decide) rfl q570 (fun _ h9 => h9) dX7_by_20 h (fun v2 h => ?_)
      refine aw_goto (tgt := 30) hK dX7_by_23 (by decide) ?_
      exact aw_iret hK dX7_by_30 h hF
  · refine aw_aload_n hK 0 dX7_by_4 rfl rfl ?_
    refine aw_gR hK fw_c5 0 (by decide) rfl q568 (fun _ h9 => h9) dX7_by_5 h (fun r3 h => ?_)
    obtain _ | j6 := r3
    · exact (fw_nn_no h).elim
    replace h := fw_nn_so h
    refine aw_callQ_i hK (fun _ _ _ _ q => fw_sd_c q (fun e q => by subst e; exact rq_U (n := 0) hK (fw_rcvM hK hZ).1 (fw_czx hZ (ct_X10_number q)) (lw_U q688 q691 q690 q689 q1722 q697) rfl (by decide +kernel) (by decide) rfl rfl (Nat.le_of_ble_eq_true rfl) dX7_by_8) (fun e q => by subst e; exact rq_O (n := 0) hK (fw_rcvM hK hZ).2.1 (fw_czx hZ (ct_X9_number q)) (lw_O q688 q691 q689 q698 q699 q1723 q700) q697 (by decide +kernel) (by decide) rfl rfl (Nat.le_of_ble_eq_true rfl) dX7_by_8) (fun e q => by subst e; exact rq_O (n := 0) hK (fw_rcvM hK hZ).2.2 (fw_czx hZ (ct_X8_number q)) (lw_O q688 q691 q689 q692 q693 q1721 q694) q697 (by decide +kernel) (by decide) rfl rfl (Nat.le_of_ble_eq_true rfl) dX7_by_8)) (fw_mt (n := 1) rfl) h (fun v5 L4 _ _ h => ?_)
    refine aw_goto (tgt := 30) hK dX7_by_11 (by decide) ?_
    exact aw_iret hK dX7_by_30 h hF
theorem ct_X7_by {j0 : Nat} {x1 : Int32} {L : LH} {r9 : Int32} {L9 : LH} {mc ms : Nat} (h : f_X7_by j0 x1 L = some (r9, L9, mc, ms)) : fw_Cx yX7_by (ws_ yX7_by cX7_by 2 (some (.int))) 2 40 [aR (some j0), aI x1] L (some (aI r9)) L9 mc ms :=
  fun b1 b2 => ct_of (own := RX7) fw_ZX_ok (by decide +kernel) rfl (Nat.le_of_ble_eq_true rfl) (fun K hZ hK hF hini => w_X7_by_0 hK ⟨b1, b2, hZ⟩ hF h)
def f_X0_isText (x0 : Int32) (L : LH) : Rs Int32 :=
  fw_cl (f_X0_in x0.toInt64 (0 : Int64) (3 : Int64) L) fun v2 L1 =>
  fw_bo v2 <|
  some (v2, L1, 0, 0)
set_option maxHeartbeats 4000000 in
set_option maxRecDepth 100000 in
theorem w_X0_isText_0 {K : Kx} {r9 : Int32} {L9 : LH} (hK : Ok K cX0_isText 1 RX0 1 25) (hZ : fw_isZ K) (hF : Fin K (some (.boolean)) (some (aI r9)) L9) {x0 : Int32} {L : LH} {mc ms : Nat} (h : f_X0_isText x0 L = some (r9, L9, mc, ms)) : AW K L mc ms 0 [(0, aI x0)] [] := by
  unfold f_X0_isText at h
  refine aw_iload_n hK 0 dX0_isText_0 rfl rfl ?_
  refine aw_i2l hK dX0_isText_1 ?_
  refine aw_lconst (v := 0) hK dX0_isText_2 rfl ?_
  refine aw_ldc2 (v := 3) hK q309 dX0_isText_3 ?_
  refine aw_callS_i (n := 3) hK (fun _ _ _ _ q => fw_czx hZ (ct_X0_in q)) (lw_S q310 q311 q94 q312) (by decide +kernel) (by decide) rfl rfl (Nat.le_of_ble_eq_true rfl) dX0_isText_6 h (fun v2 L1 _ _ h => ?_)
  obtain ⟨hbo, h⟩ := fw_bo_h h
  exact aw_zret hK hbo dX0_isText_9 h hF
theorem ct_X0_isText {x0 : Int32} {L : LH} {r9 : Int32} {L9 : LH} {mc ms : Nat} (h : f_X0_isText x0 L = some (r9, L9, mc, ms)) : fw_Cx yX0_isText (ws_ yX0_isText cX0_isText 1 (some (.boolean))) 1 25 [aI x0] L (some (aI r9)) L9 mc ms :=
  fun b1 b2 => ct_of (own := RX0) fw_ZX_ok (by decide +kernel) rfl (Nat.le_of_ble_eq_true rfl) (fun K hZ hK hF hini => w_X0_isText_0 hK ⟨b1, b2, hZ⟩ hF h)
def f_X0_wipe (j0 : Nat) (x1 : Int32) (L : LH) : Rs Int32 :=
  fw_cl (f_X0_isText x1 L) fun v2 L1 =>
  if v2 = 0 then (
    some ((-nI 2), L1, 0, 0)
  ) else (
    fw_gR 1 L1 j0 3 fun r3 =>
    fw_nn r3 fun j4 =>
    fw_rq 108 L1 j4 x1 fun r5 =>
    fw_nn r5 fun j8 =>
    fw_cl (fw_td L1 j8 (f_X1_wipe j8 L1) (f_X1_wipe j8 L1)) fun v7 L6 =>
    some (v7, L6, 0, 0)
  )
set_option maxHeartbeats 4000000 in
set_option maxRecDepth 100000 in
theorem w_X0_wipe_0 {K : Kx} {r9 : Int32} {L9 : LH} (hK : Ok K cX0_wipe 2 RX0 2 45) (hZ : fw_isZ K) (hF : Fin K (some (.int)) (some (aI r9)) L9) {j0 : Nat} {x1 : Int32} {L : LH} {mc ms : Nat} (h : f_X0_wipe j0 x1 L = some (r9, L9, mc, ms)) : AW K L mc ms 0 [(0, aR (some j0)), (1, aI x1)] [] := by
  unfold f_X0_wipe at h
  refine aw_iload_n hK 1 dX0_wipe_0 rfl rfl ?_
  refine aw_callS_i (n := 1) hK (fun _ _ _ _ q => fw_czx hZ (ct_X0_isText q)) (lw_S q306 q307 q94 q308) (by decide +kernel) (by decide) rfl rfl (Nat.le_of_ble_eq_true rfl) dX0_wipe_1 h (fun v2 L1 _ _ h => ?_)
  refine aw_if_eq (tgt := 19) hK dX0_wipe_4 (by decide) h (fun h => ?_) (fun h => ?_)
  · refine aw_bipush (v := (-nI 2)) hK dX0_wipe_19 rfl ?_
    exact aw_iret hK dX0_wipe_21 h hF
  · refine aw_aload_n hK 0 dX0_wipe_7 rfl rfl ?_
    refine aw_gR hK fw_c0 3 (by decide) rfl q229 (fun _ h9 => h9) dX0_wipe_8 h (fun r3 h => ?_)
    refine aw_iload_n hK 1 dX0_wipe_11 rfl rfl ?_
    obtain _ | j4 := r3
    · exact (fw_nn_no h).elim
    replace h := fw_nn_so h
    refine aw_aald hK 8 (by decide) rfl dX0_wipe_12 h (fun r5 h => ?_)
    obtain _ | j8 := r5
    · exact (fw_nn_no h).elim
    replace h := fw_nn_so h
    refine aw_callQ_i hK (fun _ _ _ _ q => fw_td_c q (fun hj q => rq_U (n := 0) hK (fw_rcvW hK fw_c1 hj) (fw_czx hZ (ct_X1_wipe q)) (lw_U q324 q326 q328 q325 q95 q329) rfl (by decide +kernel) (by decide) rfl rfl (Nat.le_of_ble_eq_true rfl) dX0_wipe_13) (fun hj q => rq_U (n := 0) hK (fw_rcvW hK fw_c2 hj) (fw_czx hZ (ct_X1_wipe q)) (lw_U q324 q326 q327 q325 q95 q329) rfl (by decide +kernel) (by decide) rfl rfl (Nat.le_of_ble_eq_true rfl) dX0_wipe_13)) (fw_mt (n := 1) rfl) h (fun v7 L6 _ _ h => ?_)
    refine aw_goto (tgt := 21) hK dX0_wipe_16 (by decide) ?_
    exact aw_iret hK dX0_wipe_21 h hF
theorem ct_X0_wipe {j0 : Nat} {x1 : Int32} {L : LH} {r9 : Int32} {L9 : LH} {mc ms : Nat} (h : f_X0_wipe j0 x1 L = some (r9, L9, mc, ms)) : fw_Cx yX0_wipe (ws_ yX0_wipe cX0_wipe 2 (some (.int))) 2 45 [aR (some j0), aI x1] L (some (aI r9)) L9 mc ms :=
  fun b1 b2 => ct_of (own := RX0) fw_ZX_ok (by decide +kernel) rfl (Nat.le_of_ble_eq_true rfl) (fun K hZ hK hF hini => w_X0_wipe_0 hK ⟨b1, b2, hZ⟩ hF h)
def f_X0_undo (j0 : Nat) (x1 : Int32) (L : LH) : Rs Int32 :=
  fw_cl (f_X0_isText x1 L) fun v2 L1 =>
  if v2 = 0 then (
    some ((-nI 2), L1, 0, 0)
  ) else (
    fw_gR 1 L1 j0 3 fun r3 =>
    fw_nn r3 fun j4 =>
    fw_rq 108 L1 j4 x1 fun r5 =>
    fw_nn r5 fun j8 =>
    fw_cl (fw_td L1 j8 (f_X1_undo j8 L1) (f_X1_undo j8 L1)) fun v7 L6 =>
    some (v7, L6, 0, 0)
  )
set_option maxHeartbeats 4000000 in
set_option maxRecDepth 100000 in
theorem w_X0_undo_0 {K : Kx} {r9 : Int32} {L9 : LH} (hK : Ok K cX0_undo 2 RX0 2 45) (hZ : fw_isZ K) (hF : Fin K (some (.int)) (some (aI r9)) L9) {j0 : Nat} {x1 : Int32} {L : LH} {mc ms : Nat} (h : f_X0_undo j0 x1 L = some (r9, L9, mc, ms)) : AW K L mc ms 0 [(0, aR (some j0)), (1, aI x1)] [] := by
  unfold f_X0_undo at h
  refine aw_iload_n hK 1 dX0_undo_0 rfl rfl ?_
  refine aw_callS_i (n := 1) hK (fun _ _ _ _ q => fw_czx hZ (ct_X0_isText q)) (lw_S q306 q307 q94 q308) (by decide +kernel) (by decide) rfl rfl (Nat.le_of_ble_eq_true rfl) dX0_undo_1 h (fun v2 L1 _ _ h => ?_)
  refine aw_if_eq (tgt := 19) hK dX0_undo_4 (by decide) h (fun h => ?_) (fun h => ?_)
  · refine aw_bipush (v := (-nI 2)) hK dX0_undo_19 rfl ?_
    exact aw_iret hK dX0_undo_21 h hF
  · refine aw_aload_n hK 0 dX0_undo_7 rfl rfl ?_
    refine aw_gR hK fw_c0 3 (by decide) rfl q229 (fun _ h9 => h9) dX0_undo_8 h (fun r3 h => ?_)
    refine aw_iload_n hK 1 dX0_undo_11 rfl rfl ?_
    obtain _ | j4 := r3
    · exact (fw_nn_no h).elim
    replace h := fw_nn_so h
    refine aw_aald hK 8 (by decide) rfl dX0_undo_12 h (fun r5 h => ?_)
    obtain _ | j8 := r5
    · exact (fw_nn_no h).elim
    replace h := fw_nn_so h
    refine aw_callQ_i hK (fun _ _ _ _ q => fw_td_c q (fun hj q => rq_U (n := 0) hK (fw_rcvW hK fw_c1 hj) (fw_czx hZ (ct_X1_undo q)) (lw_U q334 q336 q338 q335 q95 q339) rfl (by decide +kernel) (by decide) rfl rfl (Nat.le_of_ble_eq_true rfl) dX0_undo_13) (fun hj q => rq_U (n := 0) hK (fw_rcvW hK fw_c2 hj) (fw_czx hZ (ct_X1_undo q)) (lw_U q334 q336 q337 q335 q95 q339) rfl (by decide +kernel) (by decide) rfl rfl (Nat.le_of_ble_eq_true rfl) dX0_undo_13)) (fw_mt (n := 1) rfl) h (fun v7 L6 _ _ h => ?_)
    refine aw_goto (tgt := 21) hK dX0_undo_16 (by decide) ?_
    exact aw_iret hK dX0_undo_21 h hF
theorem ct_X0_undo {j0 : Nat} {x1 : Int32} {L : LH} {r9 : Int32} {L9 : LH} {mc ms : Nat} (h : f_X0_undo j0 x1 L = some (r9, L9, mc, ms)) : fw_Cx yX0_undo (ws_ yX0_undo cX0_undo 2 (some (.int))) 2 45 [aR (some j0), aI x1] L (some (aI r9)) L9 mc ms :=
  fun b1 b2 => ct_of (own := RX0) fw_ZX_ok (by decide +kernel) rfl (Nat.le_of_ble_eq_true rfl) (fun K hZ hK hF hini => w_X0_undo_0 hK ⟨b1, b2, hZ⟩ hF h)
def f_X0_pullerBy (j0 : Nat) (x1 : Int32) (L : LH) : Rs (Option Nat) :=
  fw_gR 1 L j0 1 fun r1 =>
  fw_nn r1 fun j2 =>
  fw_rq 106 L j2 (x1 / (nI 8)) fun r3 =>
  fw_nn r3 fun j5 =>
  fw_gR 2 L j5 5 fun r4 =>
  fw_nn r4 fun j8 =>
  fw_is 5 L j8 <|
  fw_cl (f_J2_get j8 (x1 - x1 / (nI 8) * (nI 8)) L) fun r7 L6 =>
  fw_ck 6 L6 r7 <|
  some (r7, L6, 0, 0)
set_option maxHeartbeats 4000000 in
set_option maxRecDepth 100000 in
theorem w_X0_pullerBy_0 {K : Kx} {r9 : (Option Nat)} {L9 : LH} (hK : Ok K cX0_pullerBy 2 RX0 3 64) (hZ : fw_isZ K) (hF : Fin K (some (.object "TugOfWar$Puller")) (some (aR r9)) L9) {j0 : Nat} {x1 : Int32} {L : LH} {mc ms : Nat} (h : f_X0_pullerBy j0 x1 L = some (r9, L9, mc, ms)) : AW K L mc ms 0 [(0, aR (some j0)), (1, aI x1)] [] := by
  unfold f_X0_pullerBy at h
  refine aw_aload_n hK 0 dX0_pullerBy_0 rfl rfl ?_
  refine aw_gR hK fw_c0 1 (by decide) rfl q227 (fun _ h9 => h9) dX0_pullerBy_1 h (fun r1 h => ?_)
  refine aw_iload_n hK 1 dX0_pullerBy_4 rfl rfl ?_
  refine aw_bipush (v := (nI 8)) hK dX0_pullerBy_5 rfl ?_
  refine aw_idiv hK dX0_pullerBy_7 (by decide) ?_
  obtain _ | j2 := r1
  · exact (fw_nn_no h).elim
  replace h := fw_nn_so h
  refine aw_aald hK 6 (by decide) rfl dX0_pullerBy_8 h (fun r3 h => ?_)
  obtain _ | j5 := r3
  · exact (fw_nn_no h).elim
  replace h := fw_nn_so h
  refine aw_gR hK fw_c1 5 (by decide) rfl q168 (fun _ h9 => h9) dX0_pullerBy_9 h (fun r4 h => ?_)
  refine aw_iload_n hK 1 dX0_pullerBy_12 rfl rfl ?_
  refine aw_bipush (v := (nI 8)) hK dX0_pullerBy_13 rfl ?_
  refine aw_irem hK dX0_pullerBy_15 (by decide) ?_
  obtain _ | j8 := r4
  · exact (fw_nn_no h).elim
  replace h := fw_nn_so h
  obtain ⟨hj, h⟩ := fw_is_h h
  refine aw_callV_r (n := 1) hK fw_c4 hj (fun _ _ _ _ q => fw_czx hZ (ct_J2_get q)) (lw_V q669 q670 q671 q99 q672) (by decide +kernel) (by decide) rfl rfl (Nat.le_of_ble_eq_true rfl) dX0_pullerBy_16 h (fun r7 L6 _ _ h => ?_)
  refine aw_ck hK fw_c5 q683 dX0_pullerBy_19 h (fun h => ?_)
  exact aw_aret hK rfl dX0_pullerBy_22 h hF
theorem ct_X0_pullerBy {j0 : Nat} {x1 : Int32} {L : LH} {r9 : (Option Nat)} {L9 : LH} {mc ms : Nat} (h : f_X0_pullerBy j0 x1 L = some (r9, L9, mc, ms)) : fw_Cx yX0_pullerBy (ws_ yX0_pullerBy cX0_pullerBy 2 (some (.object "TugOfWar$Puller"))) 3 64 [aR (some j0), aI x1] L (some (aR r9)) L9 mc ms :=
  fun b1 b2 => ct_of (own := RX0) fw_ZX_ok (by decide +kernel) rfl (Nat.le_of_ble_eq_true rfl) (fun K hZ hK hF hini => w_X0_pullerBy_0 hK ⟨b1, b2, hZ⟩ hF h)
def f_X0_back (j0 : Nat) (L : LH) : Rs Int32 :=
  fw_gR 1 L j0 5 fun r1 =>
  fw_nn r1 fun j4 =>
  fw_is 5 L j4 <|
  fw_cl (f_J2_isEmpty j4 L) fun v3 L2 =>
  if v3 = 0 then (
    fw_gR 1 L2 j0 5 fun r5 =>
    fw_gR 1 L2 j0 5 fun r6 =>
    fw_nn r6 fun j9 =>
    fw_is 5 L2 j9 <|
    fw_cl (f_J2_size j9 L2) fun v8 L7 =>
    fw_nn r5 fun j12 =>
    fw_is 5 L7 j12 <|
    fw_cl (f_J2_remove j12 (v8 - (nI 1)) L7) fun r11 L10 =>
    fw_gR 1 L10 j0 5 fun r13 =>
    fw_nn r13 fun j16 =>
    fw_is 5 L10 j16 <|
    fw_cl (f_J2_size j16 L10) fun v15 L14 =>
    some (v15, L14, 0, 0)
  ) else (
    some ((-nI 3), L2, 0, 0)
  )
set_option maxHeartbeats 4000000 in
set_option maxRecDepth 100000 in
theorem w_X0_back_0 {K : Kx} {r9 : Int32} {L9 : LH} (hK : Ok K cX0_back 1 RX0 3 66) (hZ : fw_isZ K) (hF : Fin K (some (.int)) (some (aI r9)) L9) {j0 : Nat} {L : LH} {mc ms : Nat} (h : f_X0_back j0 L = some (r9, L9, mc, ms)) : AW K L mc ms 0 [(0, aR (some j0))] [] := by
  unfold f_X0_back at h
  refine aw_aload_n hK 0 dX0_back_0 rfl rfl ?_
  refine aw_gR hK fw_c0 5 (by decide) rfl q231 (fun _ h9 => h9) dX0_back_1 h (fun r1 h => ?_)
  obtain _ | j4 := r1
  · exact (fw_nn_no h).elim
  replace h := fw_nn_so h
  obtain ⟨hj, h⟩ := fw_is_h h
  refine aw_callV_i (n := 0) hK fw_c4 hj (fun _ _ _ _ q => fw_czx hZ (ct_J2_isEmpty q)) (lw_V q736 q737 q738 q99 q739) (by decide +kernel) (by decide) rfl rfl (Nat.le_of_ble_eq_true rfl) dX0_back_4 h (fun v3 L2 _ _ h => ?_)
  refine aw_if_eq (tgt := 13) hK dX0_back_7 (by decide) h (fun h => ?_) (fun h => ?_)
  · refine aw_aload_n hK 0 dX0_back_13 rfl rfl ?_
    refine aw_gR hK fw_c0 5 (by decide) rfl q231 (fun _ h9 => h9) dX0_back_14 h (fun r5 h => ?_)
    refine aw_aload_n hK 0 dX0_back_17 rfl rfl ?_
    refine aw_gR hK fw_c0 5 (by decide) rfl q231 (fun _ h9 => h9) dX0_back_18 h (fun r6 h => ?_)
    obtain _ | j9 := r6
    · exact (fw_nn_no h).elim
    replace h := fw_nn_so h
    obtain ⟨hj, h⟩ := fw_is_h h
    refine aw_callV_i (n := 0) hK fw_c4 hj (fun _ _ _ _ q => fw_czx hZ (ct_J2_size q)) (lw_V q730 q385 q386 q99 q387) (by decide +kernel) (by decide) rfl rfl (Nat.le_of_ble_eq_true rfl) dX0_back_21 h (fun v8 L7 _ _ h => ?_)
    refine aw_iconst (v := (nI 1)) hK dX0_back_24 rfl ?_
    refine aw_isub hK dX0_back_25 ?_
    obtain _ | j12 := r5
    · exact (fw_nn_no h).elim
    replace h := fw_nn_so h
    obtain ⟨hj, h⟩ := fw_is_h h
    refine aw_callV_r (n := 1) hK fw_c4 hj (fun _ _ _ _ q => fw_czx hZ (ct_J2_remove q)) (lw_V q740 q741 q742 q99 q743) (by decide +kernel) (by decide) rfl rfl (Nat.le_of_ble_eq_true rfl) dX0_back_26 h (fun r11 L10 _ _ h => ?_)
    refine aw_pop hK dX0_back_29 rfl ?_
    refine aw_aload_n hK 0 dX0_back_30 rfl rfl ?_
    refine aw_gR hK fw_c0 5 (by decide) rfl q231 (fun _ h9 => h9) dX0_back_31 h (fun r13 h => ?_)
    obtain _ | j16 := r13
    · exact (fw_nn_no h).elim
    replace h := fw_nn_so h
    obtain ⟨hj, h⟩ := fw_is_h h
    refine aw_callV_i (n := 0) hK fw_c4 hj (fun _ _ _ _ q => fw_czx hZ (ct_J2_size q)) (lw_V q730 q385 q386 q99 q387) (by decide +kernel) (by decide) rfl rfl (Nat.le_of_ble_eq_true rfl) dX0_back_34 h (fun v15 L14 _ _ h => ?_)
    exact aw_iret hK dX0_back_37 h hF
  · refine aw_bipush (v := (-nI 3)) hK dX0_back_10 rfl ?_
    exact aw_iret hK dX0_back_12 h hF
theorem ct_X0_back {j0 : Nat} {L : LH} {r9 : Int32} {L9 : LH} {mc ms : Nat} (h : f_X0_back j0 L = some (r9, L9, mc, ms)) : fw_Cx yX0_back (ws_ yX0_back cX0_back 1 (some (.int))) 3 66 [aR (some j0)] L (some (aI r9)) L9 mc ms :=
  fun b1 b2 => ct_of (own := RX0) fw_ZX_ok (by decide +kernel) rfl (Nat.le_of_ble_eq_true rfl) (fun K hZ hK hF hini => w_X0_back_0 hK ⟨b1, b2, hZ⟩ hF h)
def f_X0_rains_65 (rec2 : Nat → Int32 → Int32 → LH → Rs Unit) (j0 : Nat) (x1 : Int32) (x2 : Int32) (L : LH) : Rs Unit :=
  rec2 j0 x1 (x2 + (nI 1)) L
def f_X0_rains_2 : Nat → Nat → Int32 → Int32 → LH → Rs Unit
  | 0, _, _, _, _ => none
  | n + 1, j0, x1, x2, L =>
    fw_gR 1 L j0 5 fun r1 =>
    fw_nn r1 fun j4 =>
    fw_is 5 L j4 <|
    fw_cl (f_J2_size j4 L) fun v3 L2 =>
    if v3 ≤ x2 then (
      some ((), L2, 0, 0)
    ) else (
      fw_gR 1 L2 j0 5 fun r5 =>
      fw_nn r5 fun j8 =>
      fw_is 5 L2 j8 <|
      fw_cl (f_J2_get j8 x2 L2) fun r7 L6 =>
      fw_ck 100 L6 r7 <|
      fw_nn r7 fun j9 =>
      fw_rd 100 L6 j9 (nI 0) fun v10 =>
      if v10 = (nI 1) then (
        fw_rd 100 L6 j9 (nI 1) fun v11 =>
        if v11 = x1 then (
          fw_gI 1 L6 j0 16 fun v12 =>
          fw_cl (f_X0_isIn v12 x2 L6) fun v14 L13 =>
          if v14 = 0 then (
            fw_gI 1 L13 j0 7 fun v15 =>
            fw_pI 1 L13 j0 7 (fw_min (v15 + (nI 1)) (nI 9)) fun L16 =>
            f_X0_rains_65 (f_X0_rains_2 n) j0 x1 x2 L16
          ) else (
            f_X0_rains_65 (f_X0_rains_2 n) j0 x1 x2 L13
          )
        ) else (
          f_X0_rains_65 (f_X0_rains_2 n) j0 x1 x2 L6
        )
      ) else (
        f_X0_rains_65 (f_X0_rains_2 n) j0 x1 x2 L6
      )
    )
def f_X0_rains (j0 : Nat) (x1 : Int32) (L : LH) : Rs Unit :=
  f_X0_rains_2 fw_fuel j0 x1 (nI 0) L
set_option maxHeartbeats 4000000 in
set_option maxRecDepth 100000 in
theorem w_X0_rains_65 {K : Kx} {r9 : Unit} {L9 : LH} (hK : Ok K cX0_rains 4 RX0 3 64) (hZ : fw_isZ K) (hF : Fin K none none L9) {rec2 : Nat → Int32 → Int32 → LH → Rs Unit} (hrec2 : ∀ {j0 : Nat} {x1 : Int32} {x2 : Int32} {L : LH} {mc ms : Nat}, rec2 j0 x1 x2 L = some (r9, L9, mc, ms) → AW K L mc ms 2 [(0, aR (some j0)), (1, aI x1), (2, aI x2)] []) {j0 : Nat} {x1 : Int32} {x2 : Int32} {L : LH} {mc ms : Nat} (h : f_X0_rains_65 rec2 j0 x1 x2 L = some (r9, L9, mc, ms)) : AW K L mc ms 65 [(0, aR (some j0)), (1, aI x1), (2, aI x2)] [] := by
  unfold f_X0_rains_65 at h
  refine aw_iinc (v := (x2 + (nI 1))) (lv' := [(2, aI (x2 + (nI 1))), (0, aR (some j0)), (1, aI x1)]) hK 2 dX0_rains_65 rfl rfl (by decide) rfl ?_
  refine aw_goto (tgt := 2) hK dX0_rains_68 (by decide) ?_
  exact aw_sub [1, 2, 0] rfl (hrec2 h)
set_option maxHeartbeats 4000000 in
set_option maxRecDepth 100000 in
theorem w_X0_rains_2 {K : Kx} {r9 : Unit} {L9 : LH} (hK : Ok K cX0_rains 4 RX0 3 64) (hZ : fw_isZ K) (hF : Fin K none none L9) : ∀ {n : Nat} {j0 : Nat} {x1 : Int32} {x2 : Int32} {L : LH} {mc ms : Nat}, f_X0_rains_2 n j0 x1 x2 L = some (r9, L9, mc, ms) → AW K L mc ms 2 [(0, aR (some j0)), (1, aI x1), (2, aI x2)] [] := by
  intro n
  induction n with
  | zero =>
    intro j0 x1 x2 L mc ms h
    have h : (none : Rs Unit) = some (r9, L9, mc, ms) := h
    cases h
  | succ n ih =>
    intro j0 x1 x2 L mc ms h
    unfold f_X0_rains_2 at h
    refine aw_iload_n hK 2 dX0_rains_2 rfl rfl ?_
    refine aw_aload_n hK 0 dX0_rains_3 rfl rfl ?_
    refine aw_gR hK fw_c0 5 (by decide) rfl q231 (fun _ h9 => h9) dX0_rains_4 h (fun r1 h => ?_)
    obtain _ | j4 := r1
    · exact (fw_nn_no h).elim
    replace h := fw_nn_so h
    obtain ⟨hj, h⟩ := fw_is_h h
    refine aw_callV_i (n := 0) hK fw_c4 hj (fun _ _ _ _ q => fw_czx hZ (ct_J2_size q)) (lw_V q730 q385 q386 q99 q387) (by decide +kernel) (by decide) rfl rfl (Nat.le_of_ble_eq_true rfl) dX0_rains_7 h (fun v3 L2 _ _ h => ?_)
    refine aw_icmp_ge (tgt := 71) hK dX0_rains_10 (by decide) h (fun h => ?_) (fun h => ?_)
    · exact aw_vret hK dX0_rains_71 h hF
    · refine aw_aload_n hK 0 dX0_rains_13 rfl rfl ?_
      refine aw_gR hK fw_c0 5 (by decide) rfl q231 (fun _ h9 => h9) dX0_rains_14 h (fun r5 h => ?_)
      refine aw_iload_n hK 2 dX0_rains_17 rfl rfl ?_
      obtain _ | j8 := r5
      · exact (fw_nn_no h).elim
      replace h := fw_nn_so h
      obtain ⟨hj, h⟩ := fw_is_h h
      refine aw_callV_r (n := 1) hK fw_c4 hj (fun _ _ _ _ q => fw_czx hZ (ct_J2_get q)) (lw_V q669 q670 q671 q99 q672) (by decide +kernel) (by decide) rfl rfl (Nat.le_of_ble_eq_true rfl) dX0_rains_18 h (fun r7 L6 _ _ h => ?_)
      refine aw_cka hK 0 (by decide) rfl q798 dX0_rains_21 h (fun h => ?_)
      refine aw_astore_n (lv' := [(3, aR r7), (0, aR (some j0)), (1, aI x1), (2, aI x2)]) hK dX0_rains_24 rfl (by decide) rfl ?_
      refine aw_aload_n hK 0 dX0_rains_25 rfl rfl ?_
      refine aw_iconst (v := (nI 0)) hK dX0_rains_26 rfl ?_
      obtain _ | j9 := r7
      · exact (fw_nn_no h).elim
      replace h := fw_nn_so h
      refine aw_iald hK dX0_rains_27 h (fun v10 h => ?_)
      refine aw_iconst (v := (nI 1)) hK dX0_rains_28 rfl ?_
      refine aw_icmp_ne (tgt := 65) hK dX0_rains_29 (by decide) h (fun h => ?_) (fun h => ?_)
      · exact aw_sub [1, 2, 3] rfl (w_X0_rains_65 hK hZ hF (fun h => ih h) h)
      · refine aw_aload_n hK 0 dX0_rains_32 rfl rfl ?_
        refine aw_iconst (v := (nI 1)) hK dX0_rains_33 rfl ?_
        refine aw_iald hK dX0_rains_34 h (fun v11 h => ?_)
        refine aw_iload_n hK 2 dX0_rains_35 rfl rfl ?_
        refine aw_icmp_ne (tgt := 65) hK dX0_rains_36 (by decide) h (fun h => ?_) (fun h => ?_)
        · exact aw_sub [1, 2, 3] rfl (w_X0_rains_65 hK hZ hF (fun h => ih h) h)
        · refine aw_aload_n hK 1 dX0_rains_39 rfl rfl ?_
          refine aw_gI hK fw_c0 16 (by decide) rfl q242 (fun _ h9 => h9) dX0_rains_40 h (fun v12 h => ?_)
          refine aw_iload_n hK 3 dX0_rains_43 rfl rfl ?_
          refine aw_callS_i (n := 2) hK (fun _ _ _ _ q => fw_czx hZ (ct_X0_isIn q)) (lw_S q799 q800 q94 q801) (by decide +kernel) (by decide) rfl rfl (Nat.le_of_ble_eq_true rfl) dX0_rains_44 h (fun v14 L13 _ _ h => ?_)
          refine aw_if_ne (tgt := 65) hK dX0_rains_47 (by decide) h (fun h => ?_) (fun h => ?_)
          · exact aw_sub [1, 2, 3] rfl (w_X0_rains_65 hK hZ hF (fun h => ih h) h)
          · refine aw_aload_n hK 1 dX0_rains_50 rfl rfl ?_
            refine aw_aload_n hK 1 dX0_rains_51 rfl rfl ?_
            refine aw_gI hK fw_c0 7 (by decide) rfl q233 (fun _ h9 => h9) dX0_rains_52 h (fun v15 h => ?_)
            refine aw_iconst (v := (nI 1)) hK dX0_rains_55 rfl ?_
            refine aw_iadd hK dX0_rains_56 ?_
            refine aw_bipush (v := (nI 9)) hK dX0_rains_57 rfl ?_
            refine aw_min hK q802 q498 q109 q499 dX0_rains_59 ⟨by decide, Nat.le_of_ble_eq_true rfl⟩ ?_
            refine aw_pI hK fw_c0 7 (by decide) rfl q233 (fun _ h9 => h9) rfl rfl rfl dX0_rains_62 h (fun L16 h => ?_)
            exact aw_sub [1, 2, 3] rfl (w_X0_rains_65 hK hZ hF (fun h => ih h) h)
set_option maxHeartbeats 4000000 in
set_option maxRecDepth 100000 in
theorem w_X0_rains_0 {K : Kx} {r9 : Unit} {L9 : LH} (hK : Ok K cX0_rains 4 RX0 3 64) (hZ : fw_isZ K) (hF : Fin K none none L9) {j0 : Nat} {x1 : Int32} {L : LH} {mc ms : Nat} (h : f_X0_rains j0 x1 L = some (r9, L9, mc, ms)) : AW K L mc ms 0 [(0, aR (some j0)), (1, aI x1)] [] := by
  unfold f_X0_rains at h
  refine aw_iconst (v := (nI 0)) hK dX0_rains_0 rfl ?_
  refine aw_istore_n (lv' := [(2, aI (nI 0)), (0, aR (some j0)), (1, aI x1)]) hK dX0_rains_1 rfl (by decide) rfl ?_
  exact aw_sub [1, 2, 0] rfl (w_X0_rains_2 hK hZ hF h)
theorem ct_X0_rains {j0 : Nat} {x1 : Int32} {L : LH} {r9 : Unit} {L9 : LH} {mc ms : Nat} (h : f_X0_rains j0 x1 L = some (r9, L9, mc, ms)) : fw_Cx yX0_rains (ws_ yX0_rains cX0_rains 4 none) 3 64 [aR (some j0), aI x1] L none L9 mc ms :=
  fun b1 b2 => ct_of (own := RX0) fw_ZX_ok (by decide +kernel) rfl (Nat.le_of_ble_eq_true rfl) (fun K hZ hK hF hini => w_X0_rains_0 hK ⟨b1, b2, hZ⟩ hF h)
def f_X0_isTold_71 (rec3 : Nat → Int32 → Int32 → Int32 → Int32 → LH → Rs Int32) (j0 : Nat) (x1 : Int32) (x2 : Int32) (x3 : Int32) (x4 : Int32) (L : LH) : Rs Int32 :=
  rec3 j0 x1 x2 x3 (x4 + (nI 1)) L
def f_X0_isTold_3 : Nat → Nat → Int32 → Int32 → Int32 → Int32 → LH → Rs Int32
  | 0, _, _, _, _, _, _ => none
  | n + 1, j0, x1, x2, x3, x4, L =>
    fw_gR 1 L j0 5 fun r1 =>
    fw_nn r1 fun j4 =>
    fw_is 5 L j4 <|
    fw_cl (f_J2_size j4 L) fun v3 L2 =>
    if v3 ≤ x4 then (
      some ((nI 0), L2, 0, 0)
    ) else (
      fw_gR 1 L2 j0 5 fun r5 =>
      fw_nn r5 fun j8 =>
      fw_is 5 L2 j8 <|
      fw_cl (f_J2_get j8 x4 L2) fun r7 L6 =>
      fw_ck 100 L6 r7 <|
      fw_nn r7 fun j9 =>
      fw_rd 100 L6 j9 (nI 0) fun v10 =>
      if v10 = x1 then (
        fw_rd 100 L6 j9 (nI 1) fun v11 =>
        if v11 = x2 then (
          fw_gI 1 L6 j0 16 fun v12 =>
          fw_cl (f_X0_isIn v12 x4 L6) fun v14 L13 =>
          if v14 = 0 then (
            if 0 < x1 then (
              some ((nI 1), L13, 0, 0)
            ) else (
              fw_rd 100 L13 j9 (nI 2) fun v15 =>
              if v15 = x3 then (
                some ((nI 1), L13, 0, 0)
              ) else (
                f_X0_isTold_71 (f_X0_isTold_3 n) j0 x1 x2 x3 x4 L13
              )
            )
          ) else (
            f_X0_isTold_71 (f_X0_isTold_3 n) j0 x1 x2 x3 x4 L13
          )
        ) else (
          f_X0_isTold_71 (f_X0_isTold_3 n) j0 x1 x2 x3 x4 L6
        )
      ) else (
        f_X0_isTold_71 (f_X0_isTold_3 n) j0 x1 x2 x3 x4 L6
      )
    )
def f_X0_isTold (j0 : Nat) (x1 : Int32) (x2 : Int32) (x3 : Int32) (L : LH) : Rs Int32 :=
  f_X0_isTold_3 fw_fuel j0 x1 x2 x3 (nI 0) L
set_option maxHeartbeats 4000000 in
set_option maxRecDepth 100000 in
theorem w_X0_isTold_71 {K : Kx} {r9 : Int32} {L9 : LH} (hK : Ok K cX0_isTold 6 RX0 3 64) (hZ : fw_isZ K) (hF : Fin K (some (.boolean)) (some (aI r9)) L9) {rec3 : Nat → Int32 → Int32 → Int32 → Int32 → LH → Rs Int32} (hrec3 : ∀ {j0 : Nat} {x1 : Int32} {x2 : Int32} {x3 : Int32} {x4 : Int32} {L : LH} {mc ms : Nat}, rec3 j0 x1 x2 x3 x4 L = some (r9, L9, mc, ms) → AW K L mc ms 3 [(0, aR (some j0)), (1, aI x1), (2, aI x2), (3, aI x3), (4, aI x4)] []) {j0 : Nat} {x1 : Int32} {x2 : Int32} {x3 : Int32} {x4 : Int32} {L : LH} {mc ms : Nat} (h : f_X0_isTold_71 rec3 j0 x1 x2 x3 x4 L = some (r9, L9, mc, ms)) : AW K L mc ms 71 [(0, aR (some j0)), (1, aI x1), (2, aI x2), (3, aI x3), (4, aI x4)] [] := by
  unfold f_X0_isTold_71 at h
  refine aw_iinc (v := (x4 + (nI 1))) (lv' := [(4, aI (x4 + (nI 1))), (0, aR (some j0)), (1, aI x1), (2, aI x2), (3, aI x3)]) hK 4 dX0_isTold_71 rfl rfl (by decide) rfl ?_
  refine aw_goto (tgt := 3) hK dX0_isTold_74 (by decide) ?_
  exact aw_sub [1, 2, 3, 4, 0] rfl (hrec3 h)
set_option maxHeartbeats 4000000 in
set_option maxRecDepth 100000 in
theorem w_X0_isTold_3 {K : Kx} {r9 : Int32} {L9 : LH} (hK : Ok K cX0_isTold 6 RX0 3 64) (hZ : fw_isZ K) (hF : Fin K (some (.boolean)) (some (aI r9)) L9) : ∀ {n : Nat} {j0 : Nat} {x1 : Int32} {x2 : Int32} {x3 : Int32} {x4 : Int32} {L : LH} {mc ms : Nat}, f_X0_isTold_3 n j0 x1 x2 x3 x4 L = some (r9, L9, mc, ms) → AW K L mc ms 3 [(0, aR (some j0)), (1, aI x1), (2, aI x2), (3, aI x3), (4, aI x4)] [] := by
  intro n
  induction n with
  | zero =>
    intro j0 x1 x2 x3 x4 L mc ms h
    have h : (none : Rs Int32) = some (r9, L9, mc, ms) := h
    cases h
  | succ n ih =>
    intro j0 x1 x2 x3 x4 L mc ms h
    unfold f_X0_isTold_3 at h
    refine aw_iload hK 4 dX0_isTold_3 rfl ?_
    refine aw_aload_n hK 0 dX0_isTold_5 rfl rfl ?_
    refine aw_gR hK fw_c0 5 (by decide) rfl q231 (fun _ h9 => h9) dX0_isTold_6 h (fun r1 h => ?_)
    obtain _ | j4 := r1
    · exact (fw_nn_no h).elim
    replace h := fw_nn_so h
    obtain ⟨hj, h⟩ := fw_is_h h
    refine aw_callV_i (n := 0) hK fw_c4 hj (fun _ _ _ _ q => fw_czx hZ (ct_J2_size q)) (lw_V q730 q385 q386 q99 q387) (by decide +kernel) (by decide) rfl rfl (Nat.le_of_ble_eq_true rfl) dX0_isTold_9 h (fun v3 L2 _ _ h => ?_)
    refine aw_icmp_ge (tgt := 77) hK dX0_isTold_12 (by decide) h (fun h => ?_) (fun h => ?_)
    · refine aw_iconst (v := (nI 0)) hK dX0_isTold_77 rfl ?_
      exact aw_zret hK (by decide) dX0_isTold_78 h hF
    · refine aw_aload_n hK 0 dX0_isTold_15 rfl rfl ?_
      refine aw_gR hK fw_c0 5 (by decide) rfl q231 (fun _ h9 => h9) dX0_isTold_16 h (fun r5 h => ?_)
      refine aw_iload hK 4 dX0_isTold_19 rfl ?_
      obtain _ | j8 := r5
      · exact (fw_nn_no h).elim
      replace h := fw_nn_so h
      obtain ⟨hj, h⟩ := fw_is_h h
      refine aw_callV_r (n := 1) hK fw_c4 hj (fun _ _ _ _ q => fw_czx hZ (ct_J2_get q)) (lw_V q669 q670 q671 q99 q672) (by decide +kernel) (by decide) rfl rfl (Nat.le_of_ble_eq_true rfl) dX0_isTold_21 h (fun r7 L6 _ _ h => ?_)
      refine aw_cka hK 0 (by decide) rfl q798 dX0_isTold_24 h (fun h => ?_)
      refine aw_astore (lv' := [(5, aR r7), (0, aR (some j0)), (1, aI x1), (2, aI x2), (3, aI x3), (4, aI x4)]) hK dX0_isTold_27 (by decide) rfl ?_
      refine aw_aload hK 0 dX0_isTold_29 rfl ?_
      refine aw_iconst (v := (nI 0)) hK dX0_isTold_31 rfl ?_
      obtain _ | j9 := r7
      · exact (fw_nn_no h).elim
      replace h := fw_nn_so h
      refine aw_iald hK dX0_isTold_32 h (fun v10 h => ?_)
      refine aw_iload_n hK 2 dX0_isTold_33 rfl rfl ?_
      refine aw_icmp_ne (tgt := 71) hK dX0_isTold_34 (by decide) h (fun h => ?_) (fun h => ?_)
      · exact aw_sub [1, 2, 3, 4, 5] rfl (w_X0_isTold_71 hK hZ hF (fun h => ih h) h)
      · refine aw_aload hK 0 dX0_isTold_37 rfl ?_
        refine aw_iconst (v := (nI 1)) hK dX0_isTold_39 rfl ?_
        refine aw_iald hK dX0_isTold_40 h (fun v11 h => ?_)
        refine aw_iload_n hK 3 dX0_isTold_41 rfl rfl ?_
        refine aw_icmp_ne (tgt := 71) hK dX0_isTold_42 (by decide) h (fun h => ?_) (fun h => ?_)
        · exact aw_sub [1, 2, 3, 4, 5] rfl (w_X0_isTold_71 hK hZ hF (fun h => ih h) h)
        · refine aw_aload_n hK 1 dX0_isTold_45 rfl rfl ?_
          refine aw_gI hK fw_c0 16 (by decide) rfl q242 (fun _ h9 => h9) dX0_isTold_46 h (fun v12 h => ?_)
          refine aw_iload hK 5 dX0_isTold_49 rfl ?_
          refine aw_callS_i (n := 2) hK (fun _ _ _ _ q => fw_czx hZ (ct_X0_isIn q)) (lw_S q799 q800 q94 q801) (by decide +kernel) (by decide) rfl rfl (Nat.le_of_ble_eq_true rfl) dX0_isTold_51 h (fun v14 L13 _ _ h => ?_)
          refine aw_if_ne (tgt := 71) hK dX0_isTold_54 (by decide) h (fun h => ?_) (fun h => ?_)
          · exact aw_sub [1, 2, 3, 4, 5] rfl (w_X0_isTold_71 hK hZ hF (fun h => ih h) h)
          · refine aw_iload_n hK 2 dX0_isTold_57 rfl rfl ?_
            refine aw_if_gt (tgt := 69) hK dX0_isTold_58 (by decide) h (fun h => ?_) (fun h => ?_)
            · refine aw_iconst (v := (nI 1)) hK dX0_isTold_69 rfl ?_
              exact aw_zret hK (by decide) dX0_isTold_70 h hF
            · refine aw_aload hK 0 dX0_isTold_61 rfl ?_
              refine aw_iconst (v := (nI 2)) hK dX0_isTold_63 rfl ?_
              refine aw_iald hK dX0_isTold_64 h (fun v15 h => ?_)
              refine aw_iload_n hK 4 dX0_isTold_65 rfl rfl ?_
              refine aw_icmp_ne (tgt := 71) hK dX0_isTold_66 (by decide) h (fun h => ?_) (fun h => ?_)
              · exact aw_sub [1, 2, 3, 4, 5] rfl (w_X0_isTold_71 hK hZ hF (fun h => ih h) h)
              · refine aw_iconst (v := (nI 1)) hK dX0_isTold_69 rfl ?_
                exact aw_zret hK (by decide) dX0_isTold_70 h hF
set_option maxHeartbeats 4000000 in
set_option maxRecDepth 100000 in
theorem w_X0_isTold_0 {K : Kx} {r9 : Int32} {L9 : LH} (hK : Ok K cX0_isTold 6 RX0 3 64) (hZ : fw_isZ K) (hF : Fin K (some (.boolean)) (some (aI r9)) L9) {j0 : Nat} {x1 : Int32} {x2 : Int32} {x3 : Int32} {L : LH} {mc ms : Nat} (h : f_X0_isTold j0 x1 x2 x3 L = some (r9, L9, mc, ms)) : AW K L mc ms 0 [(0, aR (some j0)), (1, aI x1), (2, aI x2), (3, aI x3)] [] := by
  unfold f_X0_isTold at h
  refine aw_iconst (v := (nI 0)) hK dX0_isTold_0 rfl ?_
  refine aw_istore (lv' := [(4, aI (nI 0)), (0, aR (some j0)), (1, aI x1), (2, aI x2), (3, aI x3)]) hK dX0_isTold_1 (by decide) rfl ?_
  exact aw_sub [1, 2, 3, 4, 0] rfl (w_X0_isTold_3 hK hZ hF h)
theorem ct_X0_isTold {j0 : Nat} {x1 : Int32} {x2 : Int32} {x3 : Int32} {L : LH} {r9 : Int32} {L9 : LH} {mc ms : Nat} (h : f_X0_isTold j0 x1 x2 x3 L = some (r9, L9, mc, ms)) : fw_Cx yX0_isTold (ws_ yX0_isTold cX0_isTold 6 (some (.boolean))) 3 64 [aR (some j0), aI x1, aI x2, aI x3] L (some (aI r9)) L9 mc ms :=
  fun b1 b2 => ct_of (own := RX0) fw_ZX_ok (by decide +kernel) rfl (Nat.le_of_ble_eq_true rfl) (fun K hZ hK hF hini => w_X0_isTold_0 hK ⟨b1, b2, hZ⟩ hF h)
def f_X0_force_54 (j0 : Nat) (x2 : Int32) (sx0 : Int32) (sr1 : Option Nat) (L : LH) : Rs Int32 :=
  fw_gI 1 L j0 7 fun v1 =>
  fw_nn sr1 fun j4 =>
  fw_cl (fw_sd j4 (f_X10_slides j4 sx0 v1 L) (f_X10_slides j4 sx0 v1 L) (f_X8_slides j4 sx0 v1 L)) fun v3 L2 =>
  fw_gR 1 L2 j0 11 fun r5 =>
  fw_nn r5 fun j6 =>
  fw_rd 100 L2 j6 x2 fun v7 =>
  fw_wr 100 L2 j6 x2 (v7 + v3) fun L8 =>
  some (v3, L8, 0, 0)
def f_X0_force (j0 : Nat) (x1 : Int32) (x2 : Int32) (x3 : Int32) (L : LH) : Rs Int32 :=
  fw_gI 1 L j0 17 fun v1 =>
  if x2 = v1 then (
    some ((nI 0), L, 0, 0)
  ) else (
    fw_is 1 L j0 <|
    fw_cl (f_X0_isTold j0 (nI 0) x1 x2 L) fun v3 L2 =>
    if v3 = 0 then (
      fw_is 1 L2 j0 <|
      fw_cl (f_X0_pullerBy j0 x2 L2) fun r5 L4 =>
      fw_nn r5 fun j7 =>
      fw_gR 6 L4 j7 0 fun r6 =>
      if x3 = 0 then (
        fw_is 1 L4 j0 <|
        fw_cl (f_X0_rests j0 x2 (some j7) L4) fun v11 L10 =>
        f_X0_force_54 j0 x2 v11 r6 L10
      ) else (
        fw_is 1 L4 j0 <|
        fw_cl (f_X0_pulls j0 x2 (some j7) x3 L4) fun v9 L8 =>
        f_X0_force_54 j0 x2 v9 r6 L8
      )
    ) else (
      some ((nI 0), L2, 0, 0)
    )
  )
set_option maxHeartbeats 4000000 in
set_option maxRecDepth 100000 in
theorem w_X0_force_54 {K : Kx} {r9 : Int32} {L9 : LH} (hK : Ok K cX0_force 6 RX0 4 89) (hZ : fw_isZ K) (hF : Fin K (some (.int)) (some (aI r9)) L9) {j0 : Nat} {x2 : Int32} {sx0 : Int32} {sr1 : Option Nat} {L : LH} {mc ms : Nat} (h : f_X0_force_54 j0 x2 sx0 sr1 L = some (r9, L9, mc, ms)) : AW K L mc ms 54 [(0, aR (some j0)), (2, aI x2)] [aI sx0, aR sr1] := by
  unfold f_X0_force_54 at h
  refine aw_aload_n hK 0 dX0_force_54 rfl rfl ?_
  refine aw_gI hK fw_c0 7 (by decide) rfl q233 (fun _ h9 => h9) dX0_force_55 h (fun v1 h => ?_)
  obtain _ | j4 := sr1
  · exact (fw_nn_no h).elim
  replace h := fw_nn_so h
  refine aw_callQ_i hK (fun _ _ _ _ q => fw_sd_c q (fun e q => by subst e; exact rq_U (n := 2) hK (fw_rcvM hK hZ).1 (fw_czx hZ (ct_X10_slides q)) (lw_U q859 q862 q861 q860 q1722 q867) rfl (by decide +kernel) (by decide) rfl rfl (Nat.le_of_ble_eq_true rfl) dX0_force_58) (fun e q => by subst e; exact rq_U (n := 2) hK (fw_rcvM hK hZ).2.1 (fw_czx hZ (ct_X10_slides q)) (lw_U q859 q862 q869 q860 q1722 q867) rfl (by decide +kernel) (by decide) rfl rfl (Nat.le_of_ble_eq_true rfl) dX0_force_58) (fun e q => by subst e; exact rq_O (n := 2) hK (fw_rcvM hK hZ).2.2 (fw_czx hZ (ct_X8_slides q)) (lw_O q859 q862 q860 q863 q864 q1721 q865) q867 (by decide +kernel) (by decide) rfl rfl (Nat.le_of_ble_eq_true rfl) dX0_force_58)) (fw_mt (n := 3) rfl) h (fun v3 L2 _ _ h => ?_)
  refine aw_istore (lv' := [(5, aI v3), (0, aR (some j0)), (2, aI x2)]) hK dX0_force_61 (by decide) rfl ?_
  refine aw_aload_n hK 1 dX0_force_63 rfl rfl ?_
  refine aw_gR hK fw_c0 11 (by decide) rfl q237 (fun _ h9 => h9) dX0_force_64 h (fun r5 h => ?_)
  refine aw_iload_n hK 2 dX0_force_67 rfl rfl ?_
  refine aw_dup2 hK dX0_force_68 rfl rfl ?_
  obtain _ | j6 := r5
  · exact (fw_nn_no h).elim
  replace h := fw_nn_so h
  refine aw_iald hK dX0_force_69 h (fun v7 h => ?_)
  refine aw_iload hK 0 dX0_force_70 rfl ?_
  refine aw_iadd hK dX0_force_72 ?_
  refine aw_iast hK dX0_force_73 h (fun L8 h => ?_)
  refine aw_iload hK 0 dX0_force_74 rfl ?_
  exact aw_iret hK dX0_force_76 h hF
set_option maxHeartbeats 4000000 in
set_option maxRecDepth 100000 in
theorem w_X0_force_0 {K : Kx} {r9 : Int32} {L9 : LH} (hK : Ok K cX0_force 6 RX0 4 89) (hZ : fw_isZ K) (hF : Fin K (some (.int)) (some (aI r9)) L9) {j0 : Nat} {x1 : Int32} {x2 : Int32} {x3 : Int32} {L : LH} {mc ms : Nat} (h : f_X0_force j0 x1 x2 x3 L = some (r9, L9, mc, ms)) : AW K L mc ms 0 [(0, aR (some j0)), (1, aI x1), (2, aI x2), (3, aI x3)] [] := by
  unfold f_X0_force at h
  refine aw_iload_n hK 2 dX0_force_0 rfl rfl ?_
  refine aw_aload_n hK 0 dX0_force_1 rfl rfl ?_
  refine aw_gI hK fw_c0 17 (by decide) rfl q243 (fun _ h9 => h9) dX0_force_2 h (fun v1 h => ?_)
  refine aw_icmp_eq (tgt := 18) hK dX0_force_5 (by decide) h (fun h => ?_) (fun h => ?_)
  · refine aw_iconst (v := (nI 0)) hK dX0_force_18 rfl ?_
    exact aw_iret hK dX0_force_19 h hF
  · refine aw_aload_n hK 0 dX0_force_8 rfl rfl ?_
    refine aw_iconst (v := (nI 0)) hK dX0_force_9 rfl ?_
    refine aw_iload_n hK 1 dX0_force_10 rfl rfl ?_
    refine aw_iload_n hK 2 dX0_force_11 rfl rfl ?_
    obtain ⟨hj, h⟩ := fw_is_h h
    refine aw_callV_i (n := 3) hK fw_c0 hj (fun _ _ _ _ q => fw_czx hZ (ct_X0_isTold q)) (lw_V q811 q813 qs15 q94 q814) (by decide +kernel) (by decide) rfl rfl (Nat.le_of_ble_eq_true rfl) dX0_force_12 h (fun v3 L2 _ _ h => ?_)
    refine aw_if_eq (tgt := 20) hK dX0_force_15 (by decide) h (fun h => ?_) (fun h => ?_)
    · refine aw_aload_n hK 0 dX0_force_20 rfl rfl ?_
      refine aw_iload_n hK 2 dX0_force_21 rfl rfl ?_
      obtain ⟨hj, h⟩ := fw_is_h h
      refine aw_callV_r (n := 1) hK fw_c0 hj (fun _ _ _ _ q => fw_czx hZ (ct_X0_pullerBy q)) (lw_V q665 q667 qs5 q94 q668) (by decide +kernel) (by decide) rfl rfl (Nat.le_of_ble_eq_true rfl) dX0_force_22 h (fun r5 L4 _ _ h => ?_)
      refine aw_astore (lv' := [(4, aR r5), (0, aR (some j0)), (1, aI x1), (2, aI x2), (3, aI x3)]) hK dX0_force_25 (by decide) rfl ?_
      refine aw_aload hK 0 dX0_force_27 rfl ?_
      obtain _ | j7 := r5
      · exact (fw_nn_no h).elim
      replace h := fw_nn_so h
      refine aw_gRN hK fw_c5 0 (by decide) rfl (fw_nsW hK hZ (w := Cond.fieldLinkNest "TugOfWar" 199 "TugOfWar$Puller" "sort" "LTugOfWar$Sort;" "TugOfWar") (by decide)) (fun _ h9 => h9) dX0_force_29 h (fun r6 h => ?_)
      refine aw_iload_n hK 4 dX0_force_32 rfl rfl ?_
      refine aw_if_ne (tgt := 46) hK dX0_force_33 (by decide) h (fun h => ?_) (fun h => ?_)
      · refine aw_aload_n hK 1 dX0_force_46 rfl rfl ?_
        refine aw_iload_n hK 3 dX0_force_47 rfl rfl ?_
        refine aw_aload hK 0 dX0_force_48 rfl ?_
        refine aw_iload_n hK 4 dX0_force_50 rfl rfl ?_
        obtain ⟨hj, h⟩ := fw_is_h h
        refine aw_callV_i (n := 3) hK fw_c0 hj (fun _ _ _ _ q => fw_czx hZ (ct_X0_pulls q)) (lw_V q842 q844 qs18 q94 q845) (by decide +kernel) (by decide) rfl rfl (Nat.le_of_ble_eq_true rfl) dX0_force_51 h (fun v9 L8 _ _ h => ?_)
        exact aw_sub [1, 3] rfl (w_X0_force_54 hK hZ hF h)
      · refine aw_aload_n hK 1 dX0_force_36 rfl rfl ?_
        refine aw_iload_n hK 3 dX0_force_37 rfl rfl ?_
        refine aw_aload hK 0 dX0_force_38 rfl ?_
        obtain ⟨hj, h⟩ := fw_is_h h
        refine aw_callV_i (n := 2) hK fw_c0 hj (fun _ _ _ _ q => fw_czx hZ (ct_X0_rests q)) (lw_V q819 q821 qs17 q94 q822) (by decide +kernel) (by decide) rfl rfl (Nat.le_of_ble_eq_true rfl) dX0_force_40 h (fun v11 L10 _ _ h => ?_)
        refine aw_goto (tgt := 54) hK dX0_force_43 (by decide) ?_
        exact aw_sub [1, 3] rfl (w_X0_force_54 hK hZ hF h)
    · refine aw_iconst (v := (nI 0)) hK dX0_force_18 rfl ?_
      exact aw_iret hK dX0_force_19 h hF
theorem ct_X0_force {j0 : Nat} {x1 : Int32} {x2 : Int32} {x3 : Int32} {L : LH} {r9 : Int32} {L9 : LH} {mc ms : Nat} (h : f_X0_force j0 x1 x2 x3 L = some (r9, L9, mc, ms)) : fw_Cx yX0_force (ws_ yX0_force cX0_force 6 (some (.int))) 4 89 [aR (some j0), aI x1, aI x2, aI x3] L (some (aI r9)) L9 mc ms :=
  fun b1 b2 => ct_of (own := RX0) fw_ZX_ok (by decide +kernel) rfl (Nat.le_of_ble_eq_true rfl) (fun K hZ hK hF hini => w_X0_force_0 hK ⟨b1, b2, hZ⟩ hF h)
def f_X0_sheet (j0 : Nat) (x1 : Int32) (x2 : Int32) (x3 : Int32) (L : LH) : Rs Int32 :=
  fw_cl (f_X0_isSheet x1 L) fun v2 L1 =>
  if v2 = 0 then (
    some ((-nI 2), L1, 0, 0)
  ) else (
    fw_cl (f_X0_in x2.toInt64 (0 : Int64) (2 : Int64) L1) fun v4 L3 =>
    if v4 = 0 then (
      some ((-nI 2), L3, 0, 0)
    ) else (
      if x3 ≤ (nI 60) then (
        fw_gR 1 L3 j0 24 fun r5 =>
        fw_nn r5 fun j6 =>
        fw_rq 109 L3 j6 x1 fun r7 =>
        fw_cx (f_X0_rowOf x2 x3 L3) (fun x L8 =>
          fw_tE x nNA (
            fw_is 1 L8 j0 <|
            fw_cl (f_X0_met j0 (nI 5) L8) fun v11 L10 =>
            some (v11, L10, 0, 0)
          ) <|
          none
        ) fun r9 L8 =>
        fw_nn r7 fun j13 =>
        fw_pR 4 L8 j13 0 r9 fun L12 =>
        some (x3, L12, 0, 0)
      ) else (
        some ((-nI 2), L3, 0, 0)
      )
    )
  )
set_option maxHeartbeats 4000000 in
set_option maxRecDepth 100000 in
theorem w_X0_sheet_0 {K : Kx} {r9 : Int32} {L9 : LH} (hK : Ok K cX0_sheet 5 RX0 9 10269) (hZ : fw_isZ K) (htab : (kx_c K).exceptionTable.toList = tableOf [(28, 43, 44, 401)]) (hF : Fin K (some (.int)) (some (aI r9)) L9) {j0 : Nat} {x1 : Int32} {x2 : Int32} {x3 : Int32} {L : LH} {mc ms : Nat} (h : f_X0_sheet j0 x1 x2 x3 L = some (r9, L9, mc, ms)) : AW K L mc ms 0 [(0, aR (some j0)), (1, aI x1), (2, aI x2), (3, aI x3)] [] := by
  unfold f_X0_sheet at h
  refine aw_iload_n hK 1 dX0_sheet_0 rfl rfl ?_
  refine aw_callS_i (n := 1) hK (fun _ _ _ _ q => fw_czx hZ (ct_X0_isSheet q)) (lw_S q753 q754 q94 q755) (by decide +kernel) (by decide) rfl rfl (Nat.le_of_ble_eq_true rfl) dX0_sheet_1 h (fun v2 L1 _ _ h => ?_)
  refine aw_if_eq (tgt := 25) hK dX0_sheet_4 (by decide) h (fun h => ?_) (fun h => ?_)
  · refine aw_bipush (v := (-nI 2)) hK dX0_sheet_25 rfl ?_
    exact aw_iret hK dX0_sheet_27 h hF
  · refine aw_iload_n hK 2 dX0_sheet_7 rfl rfl ?_
    refine aw_i2l hK dX0_sheet_8 ?_
    refine aw_lconst (v := 0) hK dX0_sheet_9 rfl ?_
    refine aw_ldc2 (v := 2) hK q664 dX0_sheet_10 ?_
    refine aw_callS_i (n := 3) hK (fun _ _ _ _ q => fw_czx hZ (ct_X0_in q)) (lw_S q310 q311 q94 q312) (by decide +kernel) (by decide) rfl rfl (Nat.le_of_ble_eq_true rfl) dX0_sheet_13 h (fun v4 L3 _ _ h => ?_)
    refine aw_if_eq (tgt := 25) hK dX0_sheet_16 (by decide) h (fun h => ?_) (fun h => ?_)
    · refine aw_bipush (v := (-nI 2)) hK dX0_sheet_25 rfl ?_
      exact aw_iret hK dX0_sheet_27 h hF
    · refine aw_iload_n hK 3 dX0_sheet_19 rfl rfl ?_
      refine aw_bipush (v := (nI 60)) hK dX0_sheet_20 rfl ?_
      refine aw_icmp_le (tgt := 28) hK dX0_sheet_22 (by decide) h (fun h => ?_) (fun h => ?_)
      · refine aw_aload_n hK 0 dX0_sheet_28 rfl rfl ?_
        refine aw_gR hK fw_c0 24 (by decide) rfl q250 (fun _ h9 => h9) dX0_sheet_29 h (fun r5 h => ?_)
        refine aw_iload_n hK 1 dX0_sheet_32 rfl rfl ?_
        obtain _ | j6 := r5
        · exact (fw_nn_no h).elim
        replace h := fw_nn_so h
        refine aw_aald hK 9 (by decide) rfl dX0_sheet_33 h (fun r7 h => ?_)
        refine aw_iload_n hK 2 dX0_sheet_34 rfl rfl ?_
        refine aw_iload_n hK 3 dX0_sheet_35 rfl rfl ?_
        refine aw_callX_r hK (fun _ _ _ _ q => rx_S (n := 2) hK (fw_czX hZ (ct_X0_rowOf q)) (lw_S q1083 q1084 q94 q1085) (by decide +kernel) (by decide) rfl rfl (Nat.le_of_ble_eq_true rfl) dX0_sheet_36) (fw_mt (n := 2) rfl) h (fun x L8 _ _ h => ?_) (fun r9 L8 _ _ h => ?_)
        · rcases fw_tE_h h with ⟨rfl, h⟩ | h
          · refine ax_catchE hK hZ (E := nNA) (pre := []) (name := "java/lang/NegativeArraySizeException") (i := 4) htab (fun z hz => by cases hz) (by decide) (by decide) q1054 (by decide) dX0_sheet_44 (by decide) rfl ?_
            refine aw_aload_n hK 0 dX0_sheet_46 rfl rfl ?_
            refine aw_iconst (v := (nI 5)) hK dX0_sheet_47 rfl ?_
            obtain ⟨hj, h⟩ := fw_is_h h
            refine aw_callV_i (n := 1) hK fw_c0 hj (fun _ _ _ _ q => fw_czx hZ (ct_X0_met q)) (lw_V q756 q758 qs8 q94 q759) (by decide +kernel) (by decide) rfl rfl (Nat.le_of_ble_eq_true rfl) dX0_sheet_48 h (fun v11 L10 _ _ h => ?_)
            exact aw_iret hK dX0_sheet_51 h hF
          · skip
            exact (fw_no h).elim
        obtain _ | j13 := r7
        · exact (fw_nn_no h).elim
        replace h := fw_nn_so h
        refine aw_pRN hK fw_c3 0 (by decide) rfl (fw_nsW hK hZ (w := Cond.fieldLinkNest "TugOfWar" 179 "TugOfWar$Sheet" "row" "Ljava/lang/Object;" "TugOfWar") (by decide)) (fun _ h9 => h9) rfl (fun r => by cases r <;> exact ⟨rfl, rfl⟩) dX0_sheet_39 h (fun L12 h => ?_)
        refine aw_iload_n hK 3 dX0_sheet_42 rfl rfl ?_
        exact aw_iret hK dX0_sheet_43 h hF
      · refine aw_bipush (v := (-nI 2)) hK dX0_sheet_25 rfl ?_
        exact aw_iret hK dX0_sheet_27 h hF
theorem ct_X0_sheet {j0 : Nat} {x1 : Int32} {x2 : Int32} {x3 : Int32} {L : LH} {r9 : Int32} {L9 : LH} {mc ms : Nat} (h : f_X0_sheet j0 x1 x2 x3 L = some (r9, L9, mc, ms)) : fw_Cx yX0_sheet (wsW_ yX0_sheet cX0_sheet 5 (some (.int)) [(28, 43, 44, 401)]) 9 10269 [aR (some j0), aI x1, aI x2, aI x3] L (some (aI r9)) L9 mc ms :=
  fun b1 b2 => ct_ofT (own := RX0) fw_ZX_ok (by decide +kernel) rfl (Nat.le_of_ble_eq_true rfl) (fun K hZ hK hF htab => w_X0_sheet_0 hK ⟨b1, b2, hZ⟩ htab hF h)
def f_X0_lose (j0 : Nat) (x1 : Int32) (L : LH) : Rs Int32 :=
  fw_cl (f_X0_isSheet x1 L) fun v2 L1 =>
  if v2 = 0 then (
    some ((-nI 2), L1, 0, 0)
  ) else (
    fw_gR 1 L1 j0 24 fun r3 =>
    fw_nn r3 fun j4 =>
    fw_rq 109 L1 j4 x1 fun r5 =>
    fw_nn r5 fun j7 =>
    fw_gR 4 L1 j7 0 fun r6 =>
    if r6 = none then (
      fw_is 1 L1 j0 <|
      fw_cl (f_X0_met j0 (nI 1) L1) fun v20 L19 =>
      some (v20, L19, 0, 0)
    ) else (
      fw_gR 1 L1 j0 24 fun r8 =>
      fw_nn r8 fun j9 =>
      fw_rq 109 L1 j9 x1 fun r10 =>
      fw_nn r10 fun j13 =>
      fw_is 4 L1 j13 <|
      fw_cl (f_X4_size j13 L1) fun v12 L11 =>
      fw_gR 1 L11 j0 24 fun r14 =>
      fw_nn r14 fun j15 =>
      fw_rq 109 L11 j15 x1 fun r16 =>
      fw_nn r16 fun j18 =>
      fw_pR 4 L11 j18 0 none fun L17 =>
      some (v12, L17, 0, 0)
    )
  )
set_option maxHeartbeats 4000000 in
set_option maxRecDepth 100000 in
theorem w_X0_lose_0 {K : Kx} {r9 : Int32} {L9 : LH} (hK : Ok K cX0_lose 3 RX0 2 45) (hZ : fw_isZ K) (hF : Fin K (some (.int)) (some (aI r9)) L9) {j0 : Nat} {x1 : Int32} {L : LH} {mc ms : Nat} (h : f_X0_lose j0 x1 L = some (r9, L9, mc, ms)) : AW K L mc ms 0 [(0, aR (some j0)), (1, aI x1)] [] := by
  unfold f_X0_lose at h
  refine aw_iload_n hK 1 dX0_lose_0 rfl rfl ?_
  refine aw_callS_i (n := 1) hK (fun _ _ _ _ q => fw_czx hZ (ct_X0_isSheet q)) (lw_S q753 q754 q94 q755) (by decide +kernel) (by decide) rfl rfl (Nat.le_of_ble_eq_true rfl) dX0_lose_1 h (fun v2 L1 _ _ h => ?_)
  refine aw_if_ne (tgt := 10) hK dX0_lose_4 (by decide) h (fun h => ?_) (fun h => ?_)
  · refine aw_aload_n hK 0 dX0_lose_10 rfl rfl ?_
    refine aw_gR hK fw_c0 24 (by decide) rfl q250 (fun _ h9 => h9) dX0_lose_11 h (fun r3 h => ?_)
    refine aw_iload_n hK 1 dX0_lose_14 rfl rfl ?_
    obtain _ | j4 := r3
    · exact (fw_nn_no h).elim
    replace h := fw_nn_so h
    refine aw_aald hK 9 (by decide) rfl dX0_lose_15 h (fun r5 h => ?_)
    obtain _ | j7 := r5
    · exact (fw_nn_no h).elim
    replace h := fw_nn_so h
    refine aw_gRN hK fw_c3 0 (by decide) rfl (fw_nsW hK hZ (w := Cond.fieldLinkNest "TugOfWar" 179 "TugOfWar$Sheet" "row" "Ljava/lang/Object;" "TugOfWar") (by decide)) (fun _ h9 => h9) dX0_lose_16 h (fun r6 h => ?_)
    refine aw_ifnonnull (tgt := 28) hK dX0_lose_19 (by decide) h (fun h => ?_) (fun h => ?_)
    · refine aw_aload_n hK 0 dX0_lose_28 rfl rfl ?_
      refine aw_gR hK fw_c0 24 (by decide) rfl q250 (fun _ h9 => h9) dX0_lose_29 h (fun r8 h => ?_)
      refine aw_iload_n hK 1 dX0_lose_32 rfl rfl ?_
      obtain _ | j9 := r8
      · exact (fw_nn_no h).elim
      replace h := fw_nn_so h
      refine aw_aald hK 9 (by decide) rfl dX0_lose_33 h (fun r10 h => ?_)
      obtain _ | j13 := r10
      · exact (fw_nn_no h).elim
      replace h := fw_nn_so h
      obtain ⟨hj, h⟩ := fw_is_h h
      refine aw_callV_i (n := 0) hK fw_c3 hj (fun _ _ _ _ q => fw_czx hZ (ct_X4_size q)) (lw_V q760 q761 q762 q101 q763) (by decide +kernel) (by decide) rfl rfl (Nat.le_of_ble_eq_true rfl) dX0_lose_34 h (fun v12 L11 _ _ h => ?_)
      refine aw_istore_n (lv' := [(2, aI v12), (0, aR (some j0)), (1, aI x1)]) hK dX0_lose_37 rfl (by decide) rfl ?_
      refine aw_aload_n hK 1 dX0_lose_38 rfl rfl ?_
      refine aw_gR hK fw_c0 24 (by decide) rfl q250 (fun _ h9 => h9) dX0_lose_39 h (fun r14 h => ?_)
      refine aw_iload_n hK 2 dX0_lose_42 rfl rfl ?_
      obtain _ | j15 := r14
      · exact (fw_nn_no h).elim
      replace h := fw_nn_so h
      refine aw_aald hK 9 (by decide) rfl dX0_lose_43 h (fun r16 h => ?_)
      refine aw_null hK dX0_lose_44 ?_
      obtain _ | j18 := r16
      · exact (fw_nn_no h).elim
      replace h := fw_nn_so h
      refine aw_pRN hK fw_c3 0 (by decide) rfl (fw_nsW hK hZ (w := Cond.fieldLinkNest "TugOfWar" 179 "TugOfWar$Sheet" "row" "Ljava/lang/Object;" "TugOfWar") (by decide)) (fun _ h9 => h9) rfl (fun r => by cases r <;> exact ⟨rfl, rfl⟩) dX0_lose_45 h (fun L17 h => ?_)
      refine aw_iload_n hK 0 dX0_lose_48 rfl rfl ?_
      exact aw_iret hK dX0_lose_49 h hF
    · refine aw_aload_n hK 0 dX0_lose_22 rfl rfl ?_
      refine aw_iconst (v := (nI 1)) hK dX0_lose_23 rfl ?_
      obtain ⟨hj, h⟩ := fw_is_h h
      refine aw_callV_i (n := 1) hK fw_c0 hj (fun _ _ _ _ q => fw_czx hZ (ct_X0_met q)) (lw_V q756 q758 qs8 q94 q759) (by decide +kernel) (by decide) rfl rfl (Nat.le_of_ble_eq_true rfl) dX0_lose_24 h (fun v20 L19 _ _ h => ?_)
      exact aw_iret hK dX0_lose_27 h hF
  · refine aw_bipush (v := (-nI 2)) hK dX0_lose_7 rfl ?_
    exact aw_iret hK dX0_lose_9 h hF
theorem ct_X0_lose {j0 : Nat} {x1 : Int32} {L : LH} {r9 : Int32} {L9 : LH} {mc ms : Nat} (h : f_X0_lose j0 x1 L = some (r9, L9, mc, ms)) : fw_Cx yX0_lose (ws_ yX0_lose cX0_lose 3 (some (.int))) 2 45 [aR (some j0), aI x1] L (some (aI r9)) L9 mc ms :=
  fun b1 b2 => ct_of (own := RX0) fw_ZX_ok (by decide +kernel) rfl (Nat.le_of_ble_eq_true rfl) (fun K hZ hK hF hini => w_X0_lose_0 hK ⟨b1, b2, hZ⟩ hF h)
def f_X0_get (j0 : Nat) (x1 : Int32) (x2 : Int32) (x3 : Int32) (L : LH) : Rs Int32 :=
  fw_cl (f_X0_isSheet x1 L) fun v2 L1 =>
  if v2 = 0 then (
    some ((-2147483648 : Int32), L1, 0, 0)
  ) else (
    fw_cl (f_X0_in x2.toInt64 (0 : Int64) (2 : Int64) L1) fun v4 L3 =>
    if v4 = 0 then (
      some ((-2147483648 : Int32), L3, 0, 0)
    ) else (
      fw_gR 1 L3 j0 24 fun r5 =>
      fw_nn r5 fun j6 =>
      fw_rq 109 L3 j6 x1 fun r7 =>
      fw_nn r7 fun j9 =>
      fw_gR 4 L3 j9 0 fun r8 =>
      if r8 = none then (
        fw_is 1 L3 j0 <|
        fw_cl (f_X0_lowest j0 (nI 1) L3) fun v21 L20 =>
        some (v21, L20, 0, 0)
      ) else (
        fw_gR 1 L3 j0 24 fun r10 =>
        fw_nn r10 fun j11 =>
        fw_rq 109 L3 j11 x1 fun r12 =>
        fw_nn r12 fun j15 =>
        fw_is 4 L3 j15 <|
        fw_cx (f_X4_item j15 x2 x3 L3) (fun x L13 =>
          fw_tE x nCC (
            fw_is 1 L13 j0 <|
            fw_cl (f_X0_lowest j0 (nI 3) L13) fun v17 L16 =>
            some (v17, L16, 0, 0)
          ) <|
          fw_tE x nAI (
            fw_is 1 L13 j0 <|
            fw_cl (f_X0_lowest j0 (nI 2) L13) fun v19 L18 =>
            some (v19, L18, 0, 0)
          ) <|
          none
        ) fun v14 L13 =>
        some (v14, L13, 0, 0)
      )
    )
  )
set_option maxHeartbeats 4000000 in
set_option maxRecDepth 100000 in
theorem w_X0_get_0 {K : Kx} {r9 : Int32} {L9 : LH} (hK : Ok K cX0_get 5 RX0 9 10270) (hZ : fw_isZ K) (htab : (kx_c K).exceptionTable.toList = tableOf [(40, 51, 52, 407), (40, 51, 60, 409)]) (hF : Fin K (some (.int)) (some (aI r9)) L9) {j0 : Nat} {x1 : Int32} {x2 : Int32} {x3 : Int32} {L : LH} {mc ms : Nat} (h : f_X0_get j0 x1 x2 x3 L = some (r9, L9, mc, ms)) : AW K L mc ms 0 [(0, aR (some j0)), (1, aI x1), (2, aI x2), (3, aI x3)] [] := by
  unfold f_X0_get at h
  refine aw_iload_n hK 1 dX0_get_0 rfl rfl ?_
  refine aw_callS_i (n := 1) hK (fun _ _ _ _ q => fw_czx hZ (ct_X0_isSheet q)) (lw_S q753 q754 q94 q755) (by decide +kernel) (by decide) rfl rfl (Nat.le_of_ble_eq_true rfl) dX0_get_1 h (fun v2 L1 _ _ h => ?_)
  refine aw_if_eq (tgt := 19) hK dX0_get_4 (by decide) h (fun h => ?_) (fun h => ?_)
  · refine aw_ldc (v := -2147483648) hK q1136 dX0_get_19 ?_
    exact aw_iret hK dX0_get_21 h hF
  · refine aw_iload_n hK 2 dX0_get_7 rfl rfl ?_
    refine aw_i2l hK dX0_get_8 ?_
    refine aw_lconst (v := 0) hK dX0_get_9 rfl ?_
    refine aw_ldc2 (v := 2) hK q664 dX0_get_10 ?_
    refine aw_callS_i (n := 3) hK (fun _ _ _ _ q => fw_czx hZ (ct_X0_in q)) (lw_S q310 q311 q94 q312) (by decide +kernel) (by decide) rfl rfl (Nat.le_of_ble_eq_true rfl) dX0_get_13 h (fun v4 L3 _ _ h => ?_)
    refine aw_if_ne (tgt := 22) hK dX0_get_16 (by decide) h (fun h => ?_) (fun h => ?_)
    · refine aw_aload_n hK 0 dX0_get_22 rfl rfl ?_
      refine aw_gR hK fw_c0 24 (by decide) rfl q250 (fun _ h9 => h9) dX0_get_23 h (fun r5 h => ?_)
      refine aw_iload_n hK 1 dX0_get_26 rfl rfl ?_
      obtain _ | j6 := r5
      · exact (fw_nn_no h).elim
      replace h := fw_nn_so h
      refine aw_aald hK 9 (by decide) rfl dX0_get_27 h (fun r7 h => ?_)
      obtain _ | j9 := r7
      · exact (fw_nn_no h).elim
      replace h := fw_nn_so h
      refine aw_gRN hK fw_c3 0 (by decide) rfl (fw_nsW hK hZ (w := Cond.fieldLinkNest "TugOfWar" 179 "TugOfWar$Sheet" "row" "Ljava/lang/Object;" "TugOfWar") (by decide)) (fun _ h9 => h9) dX0_get_28 h (fun r8 h => ?_)
      refine aw_ifnonnull (tgt := 40) hK dX0_get_31 (by decide) h (fun h => ?_) (fun h => ?_)
      · refine aw_aload_n hK 0 dX0_get_40 rfl rfl ?_
        refine aw_gR hK fw_c0 24 (by decide) rfl q250 (fun _ h9 => h9) dX0_get_41 h (fun r10 h => ?_)
        refine aw_iload_n hK 1 dX0_get_44 rfl rfl ?_
        obtain _ | j11 := r10
        · exact (fw_nn_no h).elim
        replace h := fw_nn_so h
        refine aw_aald hK 9 (by decide) rfl dX0_get_45 h (fun r12 h => ?_)
        refine aw_iload_n hK 2 dX0_get_46 rfl rfl ?_
        refine aw_iload_n hK 3 dX0_get_47 rfl rfl ?_
        obtain _ | j15 := r12
        · exact (fw_nn_no h).elim
        replace h := fw_nn_so h
        obtain ⟨hj, h⟩ := fw_is_h h
        refine aw_callX_i hK (fun _ _ _ _ q => rx_V (n := 2) hK (fw_rcvW hK fw_c3 hj) (fw_czX hZ (ct_X4_item q)) (lw_V q772 q773 q774 q101 q775) (by decide +kernel) (by decide) rfl rfl (Nat.le_of_ble_eq_true rfl) dX0_get_48) (fw_mt (n := 3) rfl) h (fun x L13 _ _ h => ?_) (fun v14 L13 _ _ h => ?_)
        · rcases fw_tE_h h with ⟨rfl, h⟩ | h
          · refine ax_catchE hK hZ (E := nCC) (pre := []) (name := "java/lang/ClassCastException") (i := 4) htab (fun z hz => by cases hz) (by decide) (by decide) q1095 (by decide) dX0_get_52 (by decide) rfl ?_
            refine aw_aload_n hK 0 dX0_get_54 rfl rfl ?_
            refine aw_iconst (v := (nI 3)) hK dX0_get_55 rfl ?_
            obtain ⟨hj, h⟩ := fw_is_h h
            refine aw_callV_i (n := 1) hK fw_c0 hj (fun _ _ _ _ q => fw_czx hZ (ct_X0_lowest q)) (lw_V q1137 q1139 qs40 q94 q1140) (by decide +kernel) (by decide) rfl rfl (Nat.le_of_ble_eq_true rfl) dX0_get_56 h (fun v17 L16 _ _ h => ?_)
            exact aw_iret hK dX0_get_59 h hF
          · skip
            rcases fw_tE_h h with ⟨rfl, h⟩ | h
            · refine ax_catchE hK hZ (E := nAI) (pre := [_]) (name := "java/lang/ArrayIndexOutOfBoundsException") (i := 4) htab (fun z hz => by rw [List.mem_singleton.mp hz]; exact Or.inr ⟨by decide, "java/lang/ClassCastException", q1095, by decide⟩) (by decide) (by decide) q1109 (by decide) dX0_get_60 (by decide) rfl ?_
              refine aw_aload_n hK 0 dX0_get_62 rfl rfl ?_
              refine aw_iconst (v := (nI 2)) hK dX0_get_63 rfl ?_
              obtain ⟨hj, h⟩ := fw_is_h h
              refine aw_callV_i (n := 1) hK fw_c0 hj (fun _ _ _ _ q => fw_czx hZ (ct_X0_lowest q)) (lw_V q1137 q1139 qs40 q94 q1140) (by decide +kernel) (by decide) rfl rfl (Nat.le_of_ble_eq_true rfl) dX0_get_64 h (fun v19 L18 _ _ h => ?_)
              exact aw_iret hK dX0_get_67 h hF
            · skip
              exact (fw_no h).elim
        exact aw_iret hK dX0_get_51 h hF
      · refine aw_aload_n hK 0 dX0_get_34 rfl rfl ?_
        refine aw_iconst (v := (nI 1)) hK dX0_get_35 rfl ?_
        obtain ⟨hj, h⟩ := fw_is_h h
        refine aw_callV_i (n := 1) hK fw_c0 hj (fun _ _ _ _ q => fw_czx hZ (ct_X0_lowest q)) (lw_V q1137 q1139 qs40 q94 q1140) (by decide +kernel) (by decide) rfl rfl (Nat.le_of_ble_eq_true rfl) dX0_get_36 h (fun v21 L20 _ _ h => ?_)
        exact aw_iret hK dX0_get_39 h hF
    · refine aw_ldc (v := -2147483648) hK q1136 dX0_get_19 ?_
      exact aw_iret hK dX0_get_21 h hF
theorem ct_X0_get {j0 : Nat} {x1 : Int32} {x2 : Int32} {x3 : Int32} {L : LH} {r9 : Int32} {L9 : LH} {mc ms : Nat} (h : f_X0_get j0 x1 x2 x3 L = some (r9, L9, mc, ms)) : fw_Cx yX0_get (wsW_ yX0_get cX0_get 5 (some (.int)) [(40, 51, 52, 407), (40, 51, 60, 409)]) 9 10270 [aR (some j0), aI x1, aI x2, aI x3] L (some (aI r9)) L9 mc ms :=
  fun b1 b2 => ct_ofT (own := RX0) fw_ZX_ok (by decide +kernel) rfl (Nat.le_of_ble_eq_true rfl) (fun K hZ hK hF htab => w_X0_get_0 hK ⟨b1, b2, hZ⟩ htab hF h)
def f_J2_add_2_11 (j0 : Nat) (rp1 : Option Nat) (rp2 : Option Nat) (x3 : Int32) (L : LH) : Rs Unit :=
  fw_nn rp2 fun j1 =>
  fw_wqa 5 L j1 x3 rp1 fun L2 =>
  fw_pI 5 L2 j0 2 (x3 + (nI 1)) fun L3 =>
  some ((), L3, 0, 0)
def f_J2_add_2 (j0 : Nat) (rp1 : Option Nat) (rp2 : Option Nat) (x3 : Int32) (L : LH) : Rs Unit :=
  fw_nn rp2 fun j1 =>
  fw_alx L j1 fun v3 =>
  if x3 = v3 then (
    fw_is 5 L j0 <|
    fw_cl (f_J2_grow j0 L) fun r5 L4 =>
    f_J2_add_2_11 j0 rp1 r5 x3 L4
  ) else (
    f_J2_add_2_11 j0 rp1 (some j1) x3 L
  )
set_option maxHeartbeats 4000000 in
set_option maxRecDepth 100000 in
theorem w_J2_add_2_11 {K : Kx} {r9 : Unit} {L9 : LH} (hK : Ok K cJ2_add_2 4 RJ2 3 67) (hZ : fw_isZ K) (hF : Fin K none none L9) {j0 : Nat} {rp1 : Option Nat} {rp2 : Option Nat} {x3 : Int32} {L : LH} {mc ms : Nat} (h : f_J2_add_2_11 j0 rp1 rp2 x3 L = some (r9, L9, mc, ms)) : AW K L mc ms 11 [(0, aR (some j0)), (1, aR rp1), (2, aR rp2), (3, aI x3)] [] := by
  unfold f_J2_add_2_11 at h
  refine aw_aload_n hK 2 dJ2_add_2_11 rfl rfl ?_
  refine aw_iload_n hK 3 dJ2_add_2_12 rfl rfl ?_
  refine aw_aload_n hK 1 dJ2_add_2_13 rfl rfl ?_
  obtain _ | j1 := rp2
  · exact (fw_nn_no h).elim
  replace h := fw_nn_so h
  refine aw_aast hK hZ 5 (by decide) dJ2_add_2_14 h (fun L2 h => ?_)
  refine aw_aload_n hK 0 dJ2_add_2_15 rfl rfl ?_
  refine aw_iload_n hK 3 dJ2_add_2_16 rfl rfl ?_
  refine aw_iconst (v := (nI 1)) hK dJ2_add_2_17 rfl ?_
  refine aw_iadd hK dJ2_add_2_18 ?_
  refine aw_pI hK fw_c4 2 (by decide) rfl q155 (fun _ h9 => h9) rfl rfl rfl dJ2_add_2_19 h (fun L3 h => ?_)
  exact aw_vret hK dJ2_add_2_22 h hF
set_option maxHeartbeats 4000000 in
set_option maxRecDepth 100000 in
theorem w_J2_add_2_0 {K : Kx} {r9 : Unit} {L9 : LH} (hK : Ok K cJ2_add_2 4 RJ2 3 67) (hZ : fw_isZ K) (hF : Fin K none none L9) {j0 : Nat} {rp1 : Option Nat} {rp2 : Option Nat} {x3 : Int32} {L : LH} {mc ms : Nat} (h : f_J2_add_2 j0 rp1 rp2 x3 L = some (r9, L9, mc, ms)) : AW K L mc ms 0 [(0, aR (some j0)), (1, aR rp1), (2, aR rp2), (3, aI x3)] [] := by
  unfold f_J2_add_2 at h
  refine aw_iload_n hK 3 dJ2_add_2_0 rfl rfl ?_
  refine aw_aload_n hK 2 dJ2_add_2_1 rfl rfl ?_
  obtain _ | j1 := rp2
  · exact (fw_nn_no h).elim
  replace h := fw_nn_so h
  refine aw_alx hK hZ dJ2_add_2_2 h (fun v3 h => ?_)
  refine aw_icmp_ne (tgt := 11) hK dJ2_add_2_3 (by decide) h (fun h => ?_) (fun h => ?_)
  · exact w_J2_add_2_11 hK hZ hF h
  · refine aw_aload_n hK 0 dJ2_add_2_6 rfl rfl ?_
    obtain ⟨hj, h⟩ := fw_is_h h
    refine aw_callV_r (n := 0) hK fw_c4 hj (fun _ _ _ _ q => fw_czx hZ (ct_J2_grow q)) (lw_V q589 q591 qs2 q99 q592) (by decide +kernel) (by decide) rfl rfl (Nat.le_of_ble_eq_true rfl) dJ2_add_2_7 h (fun r5 L4 _ _ h => ?_)
    refine aw_astore_n (lv' := [(2, aR r5), (0, aR (some j0)), (1, aR rp1), (3, aI x3)]) hK dJ2_add_2_10 rfl (by decide) rfl ?_
    exact aw_sub [1, 2, 0, 3] rfl (w_J2_add_2_11 hK hZ hF h)
theorem ct_J2_add_2 {j0 : Nat} {rp1 : Option Nat} {rp2 : Option Nat} {x3 : Int32} {L : LH} {r9 : Unit} {L9 : LH} {mc ms : Nat} (h : f_J2_add_2 j0 rp1 rp2 x3 L = some (r9, L9, mc, ms)) : fw_Cx yJ2_add_2 (ws_ yJ2_add_2 cJ2_add_2 4 none) 3 67 [aR (some j0), aR rp1, aR rp2, aI x3] L none L9 mc ms :=
  fun b1 b2 => ct_of (own := RJ2) fw_ZX_ok (by decide +kernel) rfl (Nat.le_of_ble_eq_true rfl) (fun K hZ hK hF hini => w_J2_add_2_0 hK ⟨b1, b2, hZ⟩ hF h)
def f_J6_indexOf_2 (j0 : Nat) (x1 : Int32) (x2 : Int32) (L : LH) : Rs Int32 :=
  fw_iss j0 <|
  fw_cl (f_J6_isLatin1 j0 L) fun v2 L1 =>
  if v2 = 0 then (
    none
  ) else (
    fw_sv j0 fun r8 =>
    fw_iss j0 <|
    fw_cl (f_J6_length j0 L1) fun v10 L9 =>
    fw_cl (f_J7_indexOf r8 x1 x2 v10 L9) fun v12 L11 =>
    some (v12, L11, 0, 0)
  )
set_option maxHeartbeats 4000000 in
set_option maxRecDepth 100000 in
theorem w_J6_indexOf_2_0 {K : Kx} {r9 : Int32} {L9 : LH} (hK : Ok K cJ6_indexOf_2 3 RJ6 2 48) (hZ : fw_isZ K) (hF : Fin K (some (.int)) (some (aI r9)) L9) {j0 : Nat} {x1 : Int32} {x2 : Int32} {L : LH} {mc ms : Nat} (h : f_J6_indexOf_2 j0 x1 x2 L = some (r9, L9, mc, ms)) : AW K L mc ms 0 [(0, aR (some j0)), (1, aI x1), (2, aI x2)] [] := by
  unfold f_J6_indexOf_2 at h
  refine aw_aload_n hK 0 dJ6_indexOf_2_0 rfl rfl ?_
  obtain ⟨hj, h⟩ := fw_if_h h
  refine aw_callQ_i hK (fun _ _ _ _ q => rq_V (n := 0) hK (fw_rcvS hK hZ hj) (fw_czx hZ (ct_J6_isLatin1 q)) (lw_V q474 q475 q476 q107 q477) (by decide +kernel) (by decide) rfl rfl (Nat.le_of_ble_eq_true rfl) dJ6_indexOf_2_1) (fw_mt (n := 1) rfl) h (fun v2 L1 _ _ h => ?_)
  refine aw_if_eq (tgt := 23) hK dJ6_indexOf_2_4 (by decide) h (fun h => ?_) (fun h => ?_)
  · exact (fw_no h).elim
  · refine aw_aload_n hK 0 dJ6_indexOf_2_7 rfl rfl ?_
    refine aw_sv hK hZ q1759 (fun _ h9 => h9) dJ6_indexOf_2_8 h (fun r8 h => ?_)
    refine aw_iload_n hK 1 dJ6_indexOf_2_11 rfl rfl ?_
    refine aw_iload_n hK 2 dJ6_indexOf_2_12 rfl rfl ?_
    refine aw_aload_n hK 0 dJ6_indexOf_2_13 rfl rfl ?_
    obtain ⟨hj, h⟩ := fw_if_h h
    refine aw_callQ_i hK (fun _ _ _ _ q => rq_V (n := 0) hK (fw_rcvS hK hZ hj) (fw_czx hZ (ct_J6_length q)) (lw_V q480 q481 q482 q107 q483) (by decide +kernel) (by decide) rfl rfl (Nat.le_of_ble_eq_true rfl) dJ6_indexOf_2_14) (fw_mt (n := 1) rfl) h (fun v10 L9 _ _ h => ?_)
    refine aw_callS_i (n := 4) hK (fun _ _ _ _ q => fw_czx hZ (ct_J7_indexOf q)) (lw_S q488 q489 q108 q490) (by decide +kernel) (by decide) rfl rfl (Nat.le_of_ble_eq_true rfl) dJ6_indexOf_2_17 h (fun v12 L11 _ _ h => ?_)
    refine aw_goto (tgt := 36) hK dJ6_indexOf_2_20 (by decide) ?_
    exact aw_iret hK dJ6_indexOf_2_36 h hF
theorem ct_J6_indexOf_2 {j0 : Nat} {x1 : Int32} {x2 : Int32} {L : LH} {r9 : Int32} {L9 : LH} {mc ms : Nat} (h : f_J6_indexOf_2 j0 x1 x2 L = some (r9, L9, mc, ms)) : fw_Cx yJ6_indexOf_2 (ws_ yJ6_indexOf_2 cJ6_indexOf_2 3 (some (.int))) 2 48 [aR (some j0), aI x1, aI x2] L (some (aI r9)) L9 mc ms :=
  fun b1 b2 => ct_of (own := RJ6) fw_ZX_ok (by decide +kernel) rfl (Nat.le_of_ble_eq_true rfl) (fun K hZ hK hF hini => w_J6_indexOf_2_0 hK ⟨b1, b2, hZ⟩ hF h)
def f_X0_type (j0 : Nat) (x1 : Int32) (x2 : Int32) (L : LH) : Rs Int32 :=
  fw_cl (f_X0_isText x1 L) fun v2 L1 =>
  if v2 = 0 then (
    some ((-nI 2), L1, 0, 0)
  ) else (
    fw_cl (f_X0_in x2.toInt64 (0 : Int64) (255 : Int64) L1) fun v4 L3 =>
    if v4 = 0 then (
      some ((-nI 2), L3, 0, 0)
    ) else (
      fw_gR 1 L3 j0 3 fun r5 =>
      fw_nn r5 fun j6 =>
      fw_rq 108 L3 j6 x1 fun r7 =>
      fw_nn r7 fun j10 =>
      fw_cl (fw_td L3 j10 (f_X1_type j10 x2 L3) (f_X1_type j10 x2 L3)) fun v9 L8 =>
      some (v9, L8, 0, 0)
    )
  )
set_option maxHeartbeats 4000000 in
set_option maxRecDepth 100000 in
theorem w_X0_type_0 {K : Kx} {r9 : Int32} {L9 : LH} (hK : Ok K cX0_type 3 RX0 2 45) (hZ : fw_isZ K) (hF : Fin K (some (.int)) (some (aI r9)) L9) {j0 : Nat} {x1 : Int32} {x2 : Int32} {L : LH} {mc ms : Nat} (h : f_X0_type j0 x1 x2 L = some (r9, L9, mc, ms)) : AW K L mc ms 0 [(0, aR (some j0)), (1, aI x1), (2, aI x2)] [] := by
  unfold f_X0_type at h
  refine aw_iload_n hK 1 dX0_type_0 rfl rfl ?_
  refine aw_callS_i (n := 1) hK (fun _ _ _ _ q => fw_czx hZ (ct_X0_isText q)) (lw_S q306 q307 q94 q308) (by decide +kernel) (by decide) rfl rfl (Nat.le_of_ble_eq_true rfl) dX0_type_1 h (fun v2 L1 _ _ h => ?_)
  refine aw_if_eq (tgt := 32) hK dX0_type_4 (by decide) h (fun h => ?_) (fun h => ?_)
  · refine aw_bipush (v := (-nI 2)) hK dX0_type_32 rfl ?_
    exact aw_iret hK dX0_type_34 h hF
  · refine aw_iload_n hK 2 dX0_type_7 rfl rfl ?_
    refine aw_i2l hK dX0_type_8 ?_
    refine aw_lconst (v := 0) hK dX0_type_9 rfl ?_
    refine aw_ldc2 (v := 255) hK q313 dX0_type_10 ?_
    refine aw_callS_i (n := 3) hK (fun _ _ _ _ q => fw_czx hZ (ct_X0_in q)) (lw_S q310 q311 q94 q312) (by decide +kernel) (by decide) rfl rfl (Nat.le_of_ble_eq_true rfl) dX0_type_13 h (fun v4 L3 _ _ h => ?_)
    refine aw_if_eq (tgt := 32) hK dX0_type_16 (by decide) h (fun h => ?_) (fun h => ?_)
    · refine aw_bipush (v := (-nI 2)) hK dX0_type_32 rfl ?_
      exact aw_iret hK dX0_type_34 h hF
    · refine aw_aload_n hK 0 dX0_type_19 rfl rfl ?_
      refine aw_gR hK fw_c0 3 (by decide) rfl q229 (fun _ h9 => h9) dX0_type_20 h (fun r5 h => ?_)
      refine aw_iload_n hK 1 dX0_type_23 rfl rfl ?_
      obtain _ | j6 := r5
      · exact (fw_nn_no h).elim
      replace h := fw_nn_so h
      refine aw_aald hK 8 (by decide) rfl dX0_type_24 h (fun r7 h => ?_)
      refine aw_iload_n hK 2 dX0_type_25 rfl rfl ?_
      obtain _ | j10 := r7
      · exact (fw_nn_no h).elim
      replace h := fw_nn_so h
      refine aw_callQ_i hK (fun _ _ _ _ q => fw_td_c q (fun hj q => rq_U (n := 1) hK (fw_rcvW hK fw_c1 hj) (fw_czx hZ (ct_X1_type q)) (lw_U q314 q316 q318 q315 q95 q319) rfl (by decide +kernel) (by decide) rfl rfl (Nat.le_of_ble_eq_true rfl) dX0_type_26) (fun hj q => rq_U (n := 1) hK (fw_rcvW hK fw_c2 hj) (fw_czx hZ (ct_X1_type q)) (lw_U q314 q316 q317 q315 q95 q319) rfl (by decide +kernel) (by decide) rfl rfl (Nat.le_of_ble_eq_true rfl) dX0_type_26)) (fw_mt (n := 2) rfl) h (fun v9 L8 _ _ h => ?_)
      refine aw_goto (tgt := 34) hK dX0_type_29 (by decide) ?_
      exact aw_iret hK dX0_type_34 h hF
theorem ct_X0_type {j0 : Nat} {x1 : Int32} {x2 : Int32} {L : LH} {r9 : Int32} {L9 : LH} {mc ms : Nat} (h : f_X0_type j0 x1 x2 L = some (r9, L9, mc, ms)) : fw_Cx yX0_type (ws_ yX0_type cX0_type 3 (some (.int))) 2 45 [aR (some j0), aI x1, aI x2] L (some (aI r9)) L9 mc ms :=
  fun b1 b2 => ct_of (own := RX0) fw_ZX_ok (by decide +kernel) rfl (Nat.le_of_ble_eq_true rfl) (fun K hZ hK hF hini => w_X0_type_0 hK ⟨b1, b2, hZ⟩ hF h)
def f_J2_add (j0 : Nat) (rp1 : Option Nat) (L : LH) : Rs Int32 :=
  fw_gI 5 L j0 0 fun v1 =>
  fw_pI 5 L j0 0 (v1 + (nI 1)) fun L2 =>
  fw_gR 5 L2 j0 1 fun r3 =>
  fw_gI 5 L2 j0 2 fun v4 =>
  fw_is 5 L2 j0 <|
  fw_cl (f_J2_add_2 j0 rp1 r3 v4 L2) fun _ L5 =>
  some ((nI 1), L5, 0, 0)
set_option maxHeartbeats 4000000 in
set_option maxRecDepth 100000 in
theorem w_J2_add_0 {K : Kx} {r9 : Int32} {L9 : LH} (hK : Ok K cJ2_add 2 RJ2 4 90) (hZ : fw_isZ K) (hF : Fin K (some (.boolean)) (some (aI r9)) L9) {j0 : Nat} {rp1 : Option Nat} {L : LH} {mc ms : Nat} (h : f_J2_add j0 rp1 L = some (r9, L9, mc, ms)) : AW K L mc ms 0 [(0, aR (some j0)), (1, aR rp1)] [] := by
  unfold f_J2_add at h
  refine aw_aload_n hK 0 dJ2_add_0 rfl rfl ?_
  refine aw_dup hK dJ2_add_1 rfl ?_
  refine aw_gI hK fw_c4 0 (by decide) rfl q157 (fw_same hK q158) dJ2_add_2 h (fun v1 h => ?_)
  refine aw_iconst (v := (nI 1)) hK dJ2_add_5 rfl ?_
  refine aw_iadd hK dJ2_add_6 ?_
  refine aw_pI hK fw_c4 0 (by decide) rfl q157 (fw_same hK q158) rfl rfl rfl dJ2_add_7 h (fun L2 h => ?_)
  refine aw_aload_n hK 0 dJ2_add_10 rfl rfl ?_
  refine aw_aload_n hK 1 dJ2_add_11 rfl rfl ?_
  refine aw_aload_n hK 0 dJ2_add_12 rfl rfl ?_
  refine aw_gR hK fw_c4 1 (by decide) rfl q154 (fun _ h9 => h9) dJ2_add_13 h (fun r3 h => ?_)
  refine aw_aload_n hK 0 dJ2_add_16 rfl rfl ?_
  refine aw_gI hK fw_c4 2 (by decide) rfl q155 (fun _ h9 => h9) dJ2_add_17 h (fun v4 h => ?_)
  obtain ⟨hj, h⟩ := fw_is_h h
  refine aw_callV_v (n := 3) hK fw_c4 hj (fun _ _ _ _ q => fw_czx hZ (ct_J2_add_2 q)) (lw_V q585 q587 qs1 q99 q588) (by decide +kernel) (by decide) rfl rfl (Nat.le_of_ble_eq_true rfl) dJ2_add_20 h (fun _ L5 _ _ h => ?_)
  refine aw_iconst (v := (nI 1)) hK dJ2_add_23 rfl ?_
  exact aw_zret hK (by decide) dJ2_add_24 h hF
theorem ct_J2_add {j0 : Nat} {rp1 : Option Nat} {L : LH} {r9 : Int32} {L9 : LH} {mc ms : Nat} (h : f_J2_add j0 rp1 L = some (r9, L9, mc, ms)) : fw_Cx yJ2_add (ws_ yJ2_add cJ2_add 2 (some (.boolean))) 4 90 [aR (some j0), aR rp1] L (some (aI r9)) L9 mc ms :=
  fun b1 b2 => ct_of (own := RJ2) fw_ZX_ok (by decide +kernel) rfl (Nat.le_of_ble_eq_true rfl) (fun K hZ hK hF hini => w_J2_add_0 hK ⟨b1, b2, hZ⟩ hF h)
def f_J6_indexOf (j0 : Nat) (x1 : Int32) (L : LH) : Rs Int32 :=
  fw_iss j0 <|
  fw_cl (f_J6_indexOf_2 j0 x1 (nI 0) L) fun v2 L1 =>
  some (v2, L1, 0, 0)
set_option maxHeartbeats 4000000 in
set_option maxRecDepth 100000 in
theorem w_J6_indexOf_0 {K : Kx} {r9 : Int32} {L9 : LH} (hK : Ok K cJ6_indexOf 2 RJ6 3 70) (hZ : fw_isZ K) (hF : Fin K (some (.int)) (some (aI r9)) L9) {j0 : Nat} {x1 : Int32} {L : LH} {mc ms : Nat} (h : f_J6_indexOf j0 x1 L = some (r9, L9, mc, ms)) : AW K L mc ms 0 [(0, aR (some j0)), (1, aI x1)] [] := by
  unfold f_J6_indexOf at h
  refine aw_aload_n hK 0 dJ6_indexOf_0 rfl rfl ?_
  refine aw_iload_n hK 1 dJ6_indexOf_1 rfl rfl ?_
  refine aw_iconst (v := (nI 0)) hK dJ6_indexOf_2 rfl ?_
  obtain ⟨hj, h⟩ := fw_if_h h
  refine aw_callQ_i hK (fun _ _ _ _ q => rq_V (n := 2) hK (fw_rcvS hK hZ hj) (fw_czx hZ (ct_J6_indexOf_2 q)) (lw_V q470 q471 q472 q107 q473) (by decide +kernel) (by decide) rfl rfl (Nat.le_of_ble_eq_true rfl) dJ6_indexOf_3) (fw_mt (n := 3) rfl) h (fun v2 L1 _ _ h => ?_)
  exact aw_iret hK dJ6_indexOf_6 h hF
theorem ct_J6_indexOf {j0 : Nat} {x1 : Int32} {L : LH} {r9 : Int32} {L9 : LH} {mc ms : Nat} (h : f_J6_indexOf j0 x1 L = some (r9, L9, mc, ms)) : fw_Cx yJ6_indexOf (ws_ yJ6_indexOf cJ6_indexOf 2 (some (.int))) 3 70 [aR (some j0), aI x1] L (some (aI r9)) L9 mc ms :=
  fun b1 b2 => ct_of (own := RJ6) fw_ZX_ok (by decide +kernel) rfl (Nat.le_of_ble_eq_true rfl) (fun K hZ hK hF hini => w_J6_indexOf_0 hK ⟨b1, b2, hZ⟩ hF h)
def f_X1_passes_32 (j0 : Nat) (sx0 : Int32) (L : LH) : Rs (Int32 ⊕ XO) :=
  if sx0 = (-nI 1) then (
    fw_nw 7 7 L fun j3 L4 =>
    fw_tI L4 j0 2 fun v5 =>
    fw_cl (f_X6_torn j3 v5 L4) fun _ L6 =>
    fw_is 7 L6 j3 <|
    some (.inr (.inl j3), L6, 0, 0)
  ) else (
    fw_tI L j0 2 fun v1 =>
    fw_tpI L j0 2 (v1 + (nI 1)) fun L2 =>
    some (.inl sx0, L2, 0, 0)
  )
def f_X1_passes (j0 : Nat) (rp1 : Option Nat) (L : LH) : Rs (Int32 ⊕ XO) :=
  fw_tI L j0 2 fun v1 =>
  fw_tI L j0 1 fun v2 =>
  if v1 = v2 then (
    f_X1_passes_32 j0 (-nI 1) L
  ) else (
    fw_tR L j0 0 fun r3 =>
    fw_tI L j0 2 fun v4 =>
    fw_nn r3 fun j5 =>
    fw_rd 101 L j5 v4 fun v6 =>
    fw_nn rp1 fun j9 =>
    fw_iss j9 <|
    fw_cl (f_J6_indexOf j9 (v6 &&& (nI 255)) L) fun v8 L7 =>
    f_X1_passes_32 j0 v8 L7
  )
set_option maxHeartbeats 4000000 in
set_option maxRecDepth 100000 in
theorem w_X1_passes_32 {K : Kx} {r9 : (Int32 ⊕ XO)} {L9 : LH} (hK : Ok K cX1_passes 3 RX1 4 91) (hZ : fw_isZ K) (hnt : ∀ x ∈ (kx_c K).exceptionTable.toList, False) (hF : FinX K (some (.int)) (fw_ox (fun r => some (aI r)) r9) L9) {j0 : Nat} {sx0 : Int32} {L : LH} {mc ms : Nat} (h : f_X1_passes_32 j0 sx0 L = some (r9, L9, mc, ms)) : AW K L mc ms 32 [(0, aR (some j0))] [aI sx0] := by
  unfold f_X1_passes_32 at h
  refine aw_istore_n (lv' := [(2, aI sx0), (0, aR (some j0))]) hK dX1_passes_32 rfl (by decide) rfl ?_
  refine aw_iload_n hK 0 dX1_passes_33 rfl rfl ?_
  refine aw_iconst (v := (-nI 1)) hK dX1_passes_34 rfl ?_
  refine aw_icmp_ne (tgt := 50) hK dX1_passes_35 (by decide) h (fun h => ?_) (fun h => ?_)
  · refine aw_aload_n hK 1 dX1_passes_50 rfl rfl ?_
    refine aw_dup hK dX1_passes_51 rfl ?_
    refine aw_tI hK 2 (by decide) rfl rfl rfl q171 (fun _ h9 => h9) dX1_passes_52 h (fun v1 h => ?_)
    refine aw_iconst (v := (nI 1)) hK dX1_passes_55 rfl ?_
    refine aw_iadd hK dX1_passes_56 ?_
    refine aw_tpI hK 2 (by decide) rfl rfl rfl q171 (fun _ h9 => h9) rfl rfl rfl dX1_passes_57 h (fun L2 h => ?_)
    refine aw_iload_n hK 0 dX1_passes_60 rfl rfl ?_
    exact aw_xiret hK dX1_passes_61 h hF
  · refine aw_new hK fw_c6 q354 q388 q106 dX1_passes_38 h (fun j3 L4 _ _ h => ?_)
    refine aw_dup hK dX1_passes_41 rfl ?_
    refine aw_aload_n hK 1 dX1_passes_42 rfl rfl ?_
    refine aw_tI hK 2 (by decide) rfl rfl rfl q171 (fun _ h9 => h9) dX1_passes_43 h (fun v5 h => ?_)
    refine aw_callI (n := 1) (As := [aI v5]) hK (fun _ _ _ _ q => (fw_czx hZ (ct_X6_torn q))) (lw_meth q429) q106 q427 q428 rfl (by decide +kernel) (by decide) rfl rfl (Nat.le_of_ble_eq_true rfl) dX1_passes_46 h (fun L6 _ _ h => ?_)
    obtain ⟨hj, h⟩ := fw_is_h h
    exact aw_athrow hK dX1_passes_49 hj (ax_out hK hnt h hF)
set_option maxHeartbeats 4000000 in
set_option maxRecDepth 100000 in
theorem w_X1_passes_0 {K : Kx} {r9 : (Int32 ⊕ XO)} {L9 : LH} (hK : Ok K cX1_passes 3 RX1 4 91) (hZ : fw_isZ K) (hnt : ∀ x ∈ (kx_c K).exceptionTable.toList, False) (hF : FinX K (some (.int)) (fw_ox (fun r => some (aI r)) r9) L9) {j0 : Nat} {rp1 : Option Nat} {L : LH} {mc ms : Nat} (h : f_X1_passes j0 rp1 L = some (r9, L9, mc, ms)) : AW K L mc ms 0 [(0, aR (some j0)), (1, aR rp1)] [] := by
  unfold f_X1_passes at h
  refine aw_aload_n hK 0 dX1_passes_0 rfl rfl ?_
  refine aw_tI hK 2 (by decide) rfl rfl rfl q171 (fun _ h9 => h9) dX1_passes_1 h (fun v1 h => ?_)
  refine aw_aload_n hK 0 dX1_passes_4 rfl rfl ?_
  refine aw_tI hK 1 (by decide) rfl rfl rfl q170 (fun _ h9 => h9) dX1_passes_5 h (fun v2 h => ?_)
  refine aw_icmp_ne (tgt := 15) hK dX1_passes_8 (by decide) h (fun h => ?_) (fun h => ?_)
  · refine aw_aload_n hK 1 dX1_passes_15 rfl rfl ?_
    refine aw_aload_n hK 0 dX1_passes_16 rfl rfl ?_
    refine aw_tR hK 0 (by decide) rfl rfl rfl q169 (fun _ h9 => h9) dX1_passes_17 h (fun r3 h => ?_)
    refine aw_aload_n hK 0 dX1_passes_20 rfl rfl ?_
    refine aw_tI hK 2 (by decide) rfl rfl rfl q171 (fun _ h9 => h9) dX1_passes_21 h (fun v4 h => ?_)
    obtain _ | j5 := r3
    · exact (fw_nn_no h).elim
    replace h := fw_nn_so h
    refine aw_bald hK dX1_passes_24 h (fun v6 h => ?_)
    refine aw_sipush (v := (nI 255)) hK dX1_passes_25 rfl ?_
    refine aw_iand hK dX1_passes_28 ?_
    obtain _ | j9 := rp1
    · exact (fw_nn_no h).elim
    replace h := fw_nn_so h
    obtain ⟨hj, h⟩ := fw_if_h h
    refine aw_callQ_i hK (fun _ _ _ _ q => rq_V (n := 1) hK (fw_rcvS hK hZ hj) (fw_czx hZ (ct_J6_indexOf q)) (lw_V q466 q467 q468 q107 q469) (by decide +kernel) (by decide) rfl rfl (Nat.le_of_ble_eq_true rfl) dX1_passes_29) (fw_mt (n := 2) rfl) h (fun v8 L7 _ _ h => ?_)
    exact aw_sub [0] rfl (w_X1_passes_32 hK hZ hnt hF h)
  · refine aw_iconst (v := (-nI 1)) hK dX1_passes_11 rfl ?_
    refine aw_goto (tgt := 32) hK dX1_passes_12 (by decide) ?_
    exact aw_sub [0] rfl (w_X1_passes_32 hK hZ hnt hF h)
theorem ct_X1_passes {j0 : Nat} {rp1 : Option Nat} {L : LH} {r9 : (Int32 ⊕ XO)} {L9 : LH} {mc ms : Nat} (h : f_X1_passes j0 rp1 L = some (r9, L9, mc, ms)) : fw_CxX yX1_passes (ws_ yX1_passes cX1_passes 3 (some (.int))) 4 91 [aR (some j0), aR rp1] L (fw_ox (fun r => some (aI r)) r9) L9 mc ms :=
  fun b1 b2 => ctx_of (own := RX1) fw_ZX_ok (by decide +kernel) rfl (Nat.le_of_ble_eq_true rfl) (fun K hZ hK hF hnt => w_X1_passes_0 hK ⟨b1, b2, hZ⟩ hnt hF h)
def f_X2_part (j0 : Nat) (L : LH) : Rs (Unit ⊕ XO) :=
  fw_is 2 L j0 <|
  fw_cx (f_X1_passes j0 (some (fw_RO + 5)) L) (fun x L1 => some (.inr x, L1, 0, 0)) fun v2 L1 =>
  fw_srt (fw_RO + 0) v2 fun r3 =>
  fw_is 2 L1 j0 <|
  fw_cx (f_X1_passes j0 (some (fw_RO + 6)) L1) (fun x L4 => some (.inr x, L4, 0, 0)) fun v5 L4 =>
  fw_gR 2 L4 j0 5 fun r6 =>
  fw_nw 6 3 L4 fun j7 L8 =>
  fw_is 2 L8 j0 <|
  fw_cx (f_X1_passes j0 (some (fw_RO + 6)) L8) (fun x L9 => some (.inr x, L9, 0, 0)) fun v10 L9 =>
  fw_cl (f_X7_init j7 r3 ((nI 1) + v5) ((nI 1) + v10) L9) fun _ L11 =>
  fw_nn r6 fun j14 =>
  fw_is 5 L11 j14 <|
  fw_cl (f_J2_add j14 (some j7) L11) fun v13 L12 =>
  some (.inl (), L12, 0, 0)
set_option maxHeartbeats 4000000 in
set_option maxRecDepth 100000 in
theorem w_X2_part_0 {K : Kx} {r9 : (Unit ⊕ XO)} {L9 : LH} (hK : Ok K cX2_part 3 RX2 5 113) (hZ : fw_isZ K) (hnt : ∀ x ∈ (kx_c K).exceptionTable.toList, False) (hF : FinX K none (fw_ox (fun _ => none) r9) L9) {j0 : Nat} {L : LH} {mc ms : Nat} (h : f_X2_part j0 L = some (r9, L9, mc, ms)) : AW K L mc ms 0 [(0, aR (some j0))] [] := by
  unfold f_X2_part at h
  refine aw_getsRN hK 0 (fw_zx hK hZ).1.1 (va_Nw.use rfl (fw_nsW hK hZ (w := Cond.fieldLinkNest "TugOfWar$Team" 36 "TugOfWar" "SORT" "[LTugOfWar$Sort;" "TugOfWar") (by decide))) (fun _ h9 => h9) dX2_part_0 ?_
  refine aw_aload_n hK 0 dX2_part_3 rfl rfl ?_
  refine aw_ldcS hK 5 (fw_zx hK hZ).2.2.2.2.1.1 dX2_part_4 ?_
  obtain ⟨hj, h⟩ := fw_is_h h
  refine aw_callX_i hK (fun _ _ _ _ q => rx_U (n := 1) hK (fw_rcvW hK fw_c1 hj) (fw_czX hZ (ct_X1_passes q)) (lw_U q558 q559 q560 q464 q95 q465) rfl (by decide +kernel) (by decide) rfl rfl (Nat.le_of_ble_eq_true rfl) dX2_part_6) (fw_mt (n := 2) rfl) h (fun x L1 _ _ h => ?_) (fun v2 L1 _ _ h => ?_)
  · exact ax_out hK hnt h hF
  refine aw_srt hK hZ dX2_part_9 h (fun r3 h => ?_)
  refine aw_astore_n (lv' := [(1, aR r3), (0, aR (some j0))]) hK dX2_part_10 rfl (by decide) rfl ?_
  refine aw_iconst (v := (nI 1)) hK dX2_part_11 rfl ?_
  refine aw_aload_n hK 1 dX2_part_12 rfl rfl ?_
  refine aw_ldcS hK 6 (fw_zx hK hZ).2.2.2.2.1.2.1 dX2_part_13 ?_
  obtain ⟨hj, h⟩ := fw_is_h h
  refine aw_callX_i hK (fun _ _ _ _ q => rx_U (n := 1) hK (fw_rcvW hK fw_c1 hj) (fw_czX hZ (ct_X1_passes q)) (lw_U q558 q559 q560 q464 q95 q465) rfl (by decide +kernel) (by decide) rfl rfl (Nat.le_of_ble_eq_true rfl) dX2_part_15) (fw_mt (n := 2) rfl) h (fun x L4 _ _ h => ?_) (fun v5 L4 _ _ h => ?_)
  · exact ax_out hK hnt h hF
  refine aw_iadd hK dX2_part_18 ?_
  refine aw_istore_n (lv' := [(2, aI ((nI 1) + v5)), (1, aR r3), (0, aR (some j0))]) hK dX2_part_19 rfl (by decide) rfl ?_
  refine aw_aload_n hK 2 dX2_part_20 rfl rfl ?_
  refine aw_gR hK fw_c1 5 (by decide) rfl q167 (fun _ h9 => h9) dX2_part_21 h (fun r6 h => ?_)
  refine aw_new hK fw_c5 q562 q563 q113 dX2_part_24 h (fun j7 L8 _ _ h => ?_)
  refine aw_dup hK dX2_part_27 rfl ?_
  refine aw_aload_n hK 1 dX2_part_28 rfl rfl ?_
  refine aw_iload_n hK 0 dX2_part_29 rfl rfl ?_
  refine aw_iconst (v := (nI 1)) hK dX2_part_30 rfl ?_
  refine aw_aload_n hK 2 dX2_part_31 rfl rfl ?_
  refine aw_ldcS hK 6 (fw_zx hK hZ).2.2.2.2.1.2.1 dX2_part_32 ?_
  obtain ⟨hj, h⟩ := fw_is_h h
  refine aw_callX_i hK (fun _ _ _ _ q => rx_U (n := 1) hK (fw_rcvW hK fw_c1 hj) (fw_czX hZ (ct_X1_passes q)) (lw_U q558 q559 q560 q464 q95 q465) rfl (by decide +kernel) (by decide) rfl rfl (Nat.le_of_ble_eq_true rfl) dX2_part_34) (fw_mt (n := 2) rfl) h (fun x L9 _ _ h => ?_) (fun v10 L9 _ _ h => ?_)
  · exact ax_out hK hnt h hF
  refine aw_iadd hK dX2_part_37 ?_
  refine aw_callI (n := 3) (As := [aR r3, aI ((nI 1) + v5), aI ((nI 1) + v10)]) hK (fun _ _ _ _ q => (fw_czx hZ (ct_X7_init q))) (lw_meth q566) q113 q564 q565 rfl (by decide +kernel) (by decide) rfl rfl (Nat.le_of_ble_eq_true rfl) dX2_part_38 h (fun L11 _ _ h => ?_)
  obtain _ | j14 := r6
  · exact (fw_nn_no h).elim
  replace h := fw_nn_so h
  obtain ⟨hj, h⟩ := fw_is_h h
  refine aw_callV_i (n := 1) hK fw_c4 hj (fun _ _ _ _ q => fw_czx hZ (ct_J2_add q)) (lw_V q581 q582 q583 q99 q584) (by decide +kernel) (by decide) rfl rfl (Nat.le_of_ble_eq_true rfl) dX2_part_41 h (fun v13 L12 _ _ h => ?_)
  refine aw_pop hK dX2_part_44 rfl ?_
  exact aw_xvret hK dX2_part_45 h hF
theorem ct_X2_part {j0 : Nat} {L : LH} {r9 : (Unit ⊕ XO)} {L9 : LH} {mc ms : Nat} (h : f_X2_part j0 L = some (r9, L9, mc, ms)) : fw_CxX yX2_part (ws_ yX2_part cX2_part 3 none) 5 113 [aR (some j0)] L (fw_ox (fun _ => none) r9) L9 mc ms :=
  fun b1 b2 => ctx_of (own := RX2) fw_ZX_ok (by decide +kernel) rfl (Nat.le_of_ble_eq_true rfl) (fun K hZ hK hF hnt => w_X2_part_0 hK ⟨b1, b2, hZ⟩ hnt hF h)
def f_X2_between (j0 : Nat) (L : LH) : Rs (Unit ⊕ XO) :=
  fw_is 2 L j0 <|
  fw_cx (f_X1_passes j0 (some (fw_RO + 7)) L) (fun x L1 => some (.inr x, L1, 0, 0)) fun v2 L1 =>
  some (.inl (), L1, 0, 0)
set_option maxHeartbeats 4000000 in
set_option maxRecDepth 100000 in
theorem w_X2_between_0 {K : Kx} {r9 : (Unit ⊕ XO)} {L9 : LH} (hK : Ok K cX2_between 1 RX2 5 113) (hZ : fw_isZ K) (hnt : ∀ x ∈ (kx_c K).exceptionTable.toList, False) (hF : FinX K none (fw_ox (fun _ => none) r9) L9) {j0 : Nat} {L : LH} {mc ms : Nat} (h : f_X2_between j0 L = some (r9, L9, mc, ms)) : AW K L mc ms 0 [(0, aR (some j0))] [] := by
  unfold f_X2_between at h
  refine aw_aload_n hK 0 dX2_between_0 rfl rfl ?_
  refine aw_ldcS hK 7 (fw_zx hK hZ).2.2.2.2.1.2.2.1 dX2_between_1 ?_
  obtain ⟨hj, h⟩ := fw_is_h h
  refine aw_callX_i hK (fun _ _ _ _ q => rx_U (n := 1) hK (fw_rcvW hK fw_c1 hj) (fw_czX hZ (ct_X1_passes q)) (lw_U q558 q559 q560 q464 q95 q465) rfl (by decide +kernel) (by decide) rfl rfl (Nat.le_of_ble_eq_true rfl) dX2_between_3) (fw_mt (n := 2) rfl) h (fun x L1 _ _ h => ?_) (fun v2 L1 _ _ h => ?_)
  · exact ax_out hK hnt h hF
  refine aw_pop hK dX2_between_6 rfl ?_
  exact aw_xvret hK dX2_between_7 h hF
theorem ct_X2_between {j0 : Nat} {L : LH} {r9 : (Unit ⊕ XO)} {L9 : LH} {mc ms : Nat} (h : f_X2_between j0 L = some (r9, L9, mc, ms)) : fw_CxX yX2_between (ws_ yX2_between cX2_between 1 none) 5 113 [aR (some j0)] L (fw_ox (fun _ => none) r9) L9 mc ms :=
  fun b1 b2 => ctx_of (own := RX2) fw_ZX_ok (by decide +kernel) rfl (Nat.le_of_ble_eq_true rfl) (fun K hZ hK hF hnt => w_X2_between_0 hK ⟨b1, b2, hZ⟩ hnt hF h)
def f_X3_part (j0 : Nat) (L : LH) : Rs (Unit ⊕ XO) :=
  fw_gR 3 L j0 5 fun r1 =>
  fw_gI 3 L j0 6 fun v2 =>
  fw_is 3 L j0 <|
  fw_cx (f_X1_passes j0 (some (fw_RO + 8)) L) (fun x L3 => some (.inr x, L3, 0, 0)) fun v4 L3 =>
  fw_nn r1 fun j5 =>
  fw_wr 100 L3 j5 v2 v4 fun L6 =>
  fw_gI 3 L6 j0 6 fun v7 =>
  fw_pI 3 L6 j0 6 (v7 + (nI 1)) fun L8 =>
  some (.inl (), L8, 0, 0)
set_option maxHeartbeats 4000000 in
set_option maxRecDepth 100000 in
theorem w_X3_part_0 {K : Kx} {r9 : (Unit ⊕ XO)} {L9 : LH} (hK : Ok K cX3_part 1 RX3 5 113) (hZ : fw_isZ K) (hnt : ∀ x ∈ (kx_c K).exceptionTable.toList, False) (hF : FinX K none (fw_ox (fun _ => none) r9) L9) {j0 : Nat} {L : LH} {mc ms : Nat} (h : f_X3_part j0 L = some (r9, L9, mc, ms)) : AW K L mc ms 0 [(0, aR (some j0))] [] := by
  unfold f_X3_part at h
  refine aw_aload_n hK 0 dX3_part_0 rfl rfl ?_
  refine aw_gR hK fw_c2 5 (by decide) rfl q194 (fun _ h9 => h9) dX3_part_1 h (fun r1 h => ?_)
  refine aw_aload_n hK 0 dX3_part_4 rfl rfl ?_
  refine aw_gI hK fw_c2 6 (by decide) rfl q196 (fun _ h9 => h9) dX3_part_5 h (fun v2 h => ?_)
  refine aw_aload_n hK 0 dX3_part_8 rfl rfl ?_
  refine aw_ldcS hK 8 (fw_zx hK hZ).2.2.2.2.1.2.2.2 dX3_part_9 ?_
  obtain ⟨hj, h⟩ := fw_is_h h
  refine aw_callX_i hK (fun _ _ _ _ q => rx_U (n := 1) hK (fw_rcvW hK fw_c2 hj) (fw_czX hZ (ct_X1_passes q)) (lw_U q460 q461 q463 q464 q95 q465) rfl (by decide +kernel) (by decide) rfl rfl (Nat.le_of_ble_eq_true rfl) dX3_part_11) (fw_mt (n := 2) rfl) h (fun x L3 _ _ h => ?_) (fun v4 L3 _ _ h => ?_)
  · exact ax_out hK hnt h hF
  obtain _ | j5 := r1
  · exact (fw_nn_no h).elim
  replace h := fw_nn_so h
  refine aw_iast hK dX3_part_14 h (fun L6 h => ?_)
  refine aw_aload_n hK 0 dX3_part_15 rfl rfl ?_
  refine aw_dup hK dX3_part_16 rfl ?_
  refine aw_gI hK fw_c2 6 (by decide) rfl q196 (fun _ h9 => h9) dX3_part_17 h (fun v7 h => ?_)
  refine aw_iconst (v := (nI 1)) hK dX3_part_20 rfl ?_
  refine aw_iadd hK dX3_part_21 ?_
  refine aw_pI hK fw_c2 6 (by decide) rfl q196 (fun _ h9 => h9) rfl rfl rfl dX3_part_22 h (fun L8 h => ?_)
  exact aw_xvret hK dX3_part_25 h hF
theorem ct_X3_part {j0 : Nat} {L : LH} {r9 : (Unit ⊕ XO)} {L9 : LH} {mc ms : Nat} (h : f_X3_part j0 L = some (r9, L9, mc, ms)) : fw_CxX yX3_part (ws_ yX3_part cX3_part 1 none) 5 113 [aR (some j0)] L (fw_ox (fun _ => none) r9) L9 mc ms :=
  fun b1 b2 => ctx_of (own := RX3) fw_ZX_ok (by decide +kernel) rfl (Nat.le_of_ble_eq_true rfl) (fun K hZ hK hF hnt => w_X3_part_0 hK ⟨b1, b2, hZ⟩ hnt hF h)
def f_X0_event (j0 : Nat) (x1 : Int32) (x2 : Int32) (x3 : Int32) (L : LH) : Rs Int32 :=
  fw_cl (f_X0_in x1.toInt64 (0 : Int64) (2 : Int64) L) fun v2 L1 =>
  if v2 = 0 then (
    some ((-nI 2), L1, 0, 0)
  ) else (
    fw_cl (f_X0_isBeat x2 L1) fun v4 L3 =>
    if v4 = 0 then (
      some ((-nI 2), L3, 0, 0)
    ) else (
      fw_cl (f_X0_in x3.toInt64 (0 : Int64) (15 : Int64) L3) fun v6 L5 =>
      if v6 = 0 then (
        some ((-nI 2), L5, 0, 0)
      ) else (
        fw_gR 1 L5 j0 5 fun r7 =>
        fw_nn r7 fun j10 =>
        fw_is 5 L5 j10 <|
        fw_cl (f_J2_size j10 L5) fun v9 L8 =>
        if v9 = (nI 8) then (
          some ((-nI 4), L8, 0, 0)
        ) else (
          fw_gR 1 L8 j0 5 fun r11 =>
          fw_na 100 (nI 3) L8 fun j12 L13 =>
          fw_wr 100 L13 j12 (nI 0) x1 fun L14 =>
          fw_wr 100 L14 j12 (nI 1) x2 fun L15 =>
          fw_wr 100 L15 j12 (nI 2) x3 fun L16 =>
          fw_nn r11 fun j19 =>
          fw_is 5 L16 j19 <|
          fw_cl (f_J2_add j19 (some j12) L16) fun v18 L17 =>
          fw_gR 1 L17 j0 5 fun r20 =>
          fw_nn r20 fun j23 =>
          fw_is 5 L17 j23 <|
          fw_cl (f_J2_size j23 L17) fun v22 L21 =>
          some (v22, L21, 0, 0)
        )
      )
    )
  )
set_option maxHeartbeats 4000000 in
set_option maxRecDepth 100000 in
theorem w_X0_event_0 {K : Kx} {r9 : Int32} {L9 : LH} (hK : Ok K cX0_event 4 RX0 5 111) (hZ : fw_isZ K) (hF : Fin K (some (.int)) (some (aI r9)) L9) {j0 : Nat} {x1 : Int32} {x2 : Int32} {x3 : Int32} {L : LH} {mc ms : Nat} (h : f_X0_event j0 x1 x2 x3 L = some (r9, L9, mc, ms)) : AW K L mc ms 0 [(0, aR (some j0)), (1, aI x1), (2, aI x2), (3, aI x3)] [] := by
  unfold f_X0_event at h
  refine aw_iload_n hK 1 dX0_event_0 rfl rfl ?_
  refine aw_i2l hK dX0_event_1 ?_
  refine aw_lconst (v := 0) hK dX0_event_2 rfl ?_
  refine aw_ldc2 (v := 2) hK q664 dX0_event_3 ?_
  refine aw_callS_i (n := 3) hK (fun _ _ _ _ q => fw_czx hZ (ct_X0_in q)) (lw_S q310 q311 q94 q312) (by decide +kernel) (by decide) rfl rfl (Nat.le_of_ble_eq_true rfl) dX0_event_6 h (fun v2 L1 _ _ h => ?_)
  refine aw_if_eq (tgt := 31) hK dX0_event_9 (by decide) h (fun h => ?_) (fun h => ?_)
  · refine aw_bipush (v := (-nI 2)) hK dX0_event_31 rfl ?_
    exact aw_iret hK dX0_event_33 h hF
  · refine aw_iload_n hK 2 dX0_event_12 rfl rfl ?_
    refine aw_callS_i (n := 1) hK (fun _ _ _ _ q => fw_czx hZ (ct_X0_isBeat q)) (lw_S q710 q711 q94 q712) (by decide +kernel) (by decide) rfl rfl (Nat.le_of_ble_eq_true rfl) dX0_event_13 h (fun v4 L3 _ _ h => ?_)
    refine aw_if_eq (tgt := 31) hK dX0_event_16 (by decide) h (fun h => ?_) (fun h => ?_)
    · refine aw_bipush (v := (-nI 2)) hK dX0_event_31 rfl ?_
      exact aw_iret hK dX0_event_33 h hF
    · refine aw_iload_n hK 3 dX0_event_19 rfl rfl ?_
      refine aw_i2l hK dX0_event_20 ?_
      refine aw_lconst (v := 0) hK dX0_event_21 rfl ?_
      refine aw_ldc2 (v := 15) hK q655 dX0_event_22 ?_
      refine aw_callS_i (n := 3) hK (fun _ _ _ _ q => fw_czx hZ (ct_X0_in q)) (lw_S q310 q311 q94 q312) (by decide +kernel) (by decide) rfl rfl (Nat.le_of_ble_eq_true rfl) dX0_event_25 h (fun v6 L5 _ _ h => ?_)
      refine aw_if_ne (tgt := 34) hK dX0_event_28 (by decide) h (fun h => ?_) (fun h => ?_)
      · refine aw_aload_n hK 0 dX0_event_34 rfl rfl ?_
        refine aw_gR hK fw_c0 5 (by decide) rfl q231 (fun _ h9 => h9) dX0_event_35 h (fun r7 h => ?_)
        obtain _ | j10 := r7
        · exact (fw_nn_no h).elim
        replace h := fw_nn_so h
        obtain ⟨hj, h⟩ := fw_is_h h
        refine aw_callV_i (n := 0) hK fw_c4 hj (fun _ _ _ _ q => fw_czx hZ (ct_J2_size q)) (lw_V q730 q385 q386 q99 q387) (by decide +kernel) (by decide) rfl rfl (Nat.le_of_ble_eq_true rfl) dX0_event_38 h (fun v9 L8 _ _ h => ?_)
        refine aw_bipush (v := (nI 8)) hK dX0_event_41 rfl ?_
        refine aw_icmp_ne (tgt := 49) hK dX0_event_43 (by decide) h (fun h => ?_) (fun h => ?_)
        · refine aw_aload_n hK 0 dX0_event_49 rfl rfl ?_
          refine aw_gR hK fw_c0 5 (by decide) rfl q231 (fun _ h9 => h9) dX0_event_50 h (fun r11 h => ?_)
          refine aw_iconst (v := (nI 3)) hK dX0_event_53 rfl ?_
          refine aw_newa hK 0 (by decide) rfl q207 dX0_event_54 h (fun j12 L13 _ _ h => ?_)
          refine aw_dup hK dX0_event_56 rfl ?_
          refine aw_iconst (v := (nI 0)) hK dX0_event_57 rfl ?_
          refine aw_iload_n hK 1 dX0_event_58 rfl rfl ?_
          refine aw_iast hK dX0_event_59 h (fun L14 h => ?_)
          refine aw_dup hK dX0_event_60 rfl ?_
          refine aw_iconst (v := (nI 1)) hK dX0_event_61 rfl ?_
          refine aw_iload_n hK 2 dX0_event_62 rfl rfl ?_
          refine aw_iast hK dX0_event_63 h (fun L15 h => ?_)
          refine aw_dup hK dX0_event_64 rfl ?_
          refine aw_iconst (v := (nI 2)) hK dX0_event_65 rfl ?_
          refine aw_iload_n hK 3 dX0_event_66 rfl rfl ?_
          refine aw_iast hK dX0_event_67 h (fun L16 h => ?_)
          obtain _ | j19 := r11
          · exact (fw_nn_no h).elim
          replace h := fw_nn_so h
          obtain ⟨hj, h⟩ := fw_is_h h
          refine aw_callV_i (n := 1) hK fw_c4 hj (fun _ _ _ _ q => fw_czx hZ (ct_J2_add q)) (lw_V q731 q582 q583 q99 q584) (by decide +kernel) (by decide) rfl rfl (Nat.le_of_ble_eq_true rfl) dX0_event_68 h (fun v18 L17 _ _ h => ?_)
          refine aw_pop hK dX0_event_71 rfl ?_
          refine aw_aload_n hK 0 dX0_event_72 rfl rfl ?_
          refine aw_gR hK fw_c0 5 (by decide) rfl q231 (fun _ h9 => h9) dX0_event_73 h (fun r20 h => ?_)
          obtain _ | j23 := r20
          · exact (fw_nn_no h).elim
          replace h := fw_nn_so h
          obtain ⟨hj, h⟩ := fw_is_h h
          refine aw_callV_i (n := 0) hK fw_c4 hj (fun _ _ _ _ q => fw_czx hZ (ct_J2_size q)) (lw_V q730 q385 q386 q99 q387) (by decide +kernel) (by decide) rfl rfl (Nat.le_of_ble_eq_true rfl) dX0_event_76 h (fun v22 L21 _ _ h => ?_)
          exact aw_iret hK dX0_event_79 h hF
        · refine aw_bipush (v := (-nI 4)) hK dX0_event_46 rfl ?_
          exact aw_iret hK dX0_event_48 h hF
      · refine aw_bipush (v := (-nI 2)) hK dX0_event_31 rfl ?_
        exact aw_iret hK dX0_event_33 h hF
theorem ct_X0_event {j0 : Nat} {x1 : Int32} {x2 : Int32} {x3 : Int32} {L : LH} {r9 : Int32} {L9 : LH} {mc ms : Nat} (h : f_X0_event j0 x1 x2 x3 L = some (r9, L9, mc, ms)) : fw_Cx yX0_event (ws_ yX0_event cX0_event 4 (some (.int))) 5 111 [aR (some j0), aI x1, aI x2, aI x3] L (some (aI r9)) L9 mc ms :=
  fun b1 b2 => ct_of (own := RX0) fw_ZX_ok (by decide +kernel) rfl (Nat.le_of_ble_eq_true rfl) (fun K hZ hK hF hini => w_X0_event_0 hK ⟨b1, b2, hZ⟩ hF h)
def f_X0_read_32 : Nat → Nat → Option Nat → Int32 → LH → Rs Int32
  | 0, _, _, _, _ => none
  | n + 1, j0, rp2, x3, L =>
    fw_nn rp2 fun j3 =>
    fw_is 4 L j3 <|
    fw_cl (f_X4_size j3 L) fun v2 L1 =>
    if v2 < (((nI 3) * x3) + (nI 3)) then (
      some (x3, L1, 0, 0)
    ) else (
      fw_is 4 L1 j3 <|
      fw_cl (f_X4_type j3 L1) fun v5 L4 =>
      fw_is 4 L4 j3 <|
      fw_cx (f_X4_item j3 v5 ((nI 3) * x3) L4) (fun _ _ => none) fun v7 L6 =>
      fw_is 4 L6 j3 <|
      fw_cl (f_X4_type j3 L6) fun v9 L8 =>
      fw_is 4 L8 j3 <|
      fw_cx (f_X4_item j3 v9 (((nI 3) * x3) + (nI 1)) L8) (fun _ _ => none) fun v11 L10 =>
      fw_is 4 L10 j3 <|
      fw_cl (f_X4_type j3 L10) fun v13 L12 =>
      fw_is 4 L12 j3 <|
      fw_cx (f_X4_item j3 v13 (((nI 3) * x3) + (nI 2)) L12) (fun _ _ => none) fun v15 L14 =>
      fw_is 1 L14 j0 <|
      fw_cl (f_X0_event j0 v7 v11 v15 L14) fun v17 L16 =>
      if v17 < 0 then (
        some (x3, L16, 0, 0)
      ) else (
        f_X0_read_32 n j0 (some j3) (x3 + (nI 1)) L16
      )
    )
def f_X0_read (j0 : Nat) (x1 : Int32) (L : LH) : Rs Int32 :=
  fw_cl (f_X0_isSheet x1 L) fun v2 L1 =>
  if v2 = 0 then (
    some ((-nI 2), L1, 0, 0)
  ) else (
    fw_gR 1 L1 j0 24 fun r3 =>
    fw_nn r3 fun j4 =>
    fw_rq 109 L1 j4 x1 fun r5 =>
    fw_nn r5 fun j7 =>
    fw_gR 4 L1 j7 0 fun r6 =>
    if r6 = none then (
      fw_is 1 L1 j0 <|
      fw_cl (f_X0_met j0 (nI 1) L1) fun v9 L8 =>
      some (v9, L8, 0, 0)
    ) else (
      f_X0_read_32 fw_fuel j0 (some j7) (nI 0) L1
    )
  )
set_option maxHeartbeats 4000000 in
set_option maxRecDepth 100000 in
theorem w_X0_read_32 {K : Kx} {r9 : Int32} {L9 : LH} (hK : Ok K cX0_read 4 RX0 9 10270) (hZ : fw_isZ K) (hF : Fin K (some (.int)) (some (aI r9)) L9) : ∀ {n : Nat} {j0 : Nat} {rp2 : Option Nat} {x3 : Int32} {L : LH} {mc ms : Nat}, f_X0_read_32 n j0 rp2 x3 L = some (r9, L9, mc, ms) → AW K L mc ms 32 [(0, aR (some j0)), (2, aR rp2), (3, aI x3)] [] := by
  intro n
  induction n with
  | zero =>
    intro j0 rp2 x3 L mc ms h
    have h : (none : Rs Int32) = some (r9, L9, mc, ms) := h
    cases h
  | succ n ih =>
    intro j0 rp2 x3 L mc ms h
    unfold f_X0_read_32 at h
    refine aw_iconst (v := (nI 3)) hK dX0_read_32 rfl ?_
    refine aw_iload_n hK 2 dX0_read_33 rfl rfl ?_
    refine aw_imul hK dX0_read_34 ?_
    refine aw_iconst (v := (nI 3)) hK dX0_read_35 rfl ?_
    refine aw_iadd hK dX0_read_36 ?_
    refine aw_aload_n hK 1 dX0_read_37 rfl rfl ?_
    obtain _ | j3 := rp2
    · exact (fw_nn_no h).elim
    replace h := fw_nn_so h
    obtain ⟨hj, h⟩ := fw_is_h h
    refine aw_callV_i (n := 0) hK fw_c3 hj (fun _ _ _ _ q => fw_czx hZ (ct_X4_size q)) (lw_V q760 q761 q762 q101 q763) (by decide +kernel) (by decide) rfl rfl (Nat.le_of_ble_eq_true rfl) dX0_read_38 h (fun v2 L1 _ _ h => ?_)
    refine aw_icmp_gt (tgt := 94) hK dX0_read_41 (by decide) h (fun h => ?_) (fun h => ?_)
    · refine aw_iload_n hK 2 dX0_read_94 rfl rfl ?_
      exact aw_iret hK dX0_read_95 h hF
    · refine aw_aload_n hK 0 dX0_read_44 rfl rfl ?_
      refine aw_aload_n hK 1 dX0_read_45 rfl rfl ?_
      refine aw_aload_n hK 1 dX0_read_46 rfl rfl ?_
      obtain ⟨hj, h⟩ := fw_is_h h
      refine aw_callV_i (n := 0) hK fw_c3 hj (fun _ _ _ _ q => fw_czx hZ (ct_X4_type q)) (lw_V q771 q765 q766 q101 q767) (by decide +kernel) (by decide) rfl rfl (Nat.le_of_ble_eq_true rfl) dX0_read_47 h (fun v5 L4 _ _ h => ?_)
      refine aw_iconst (v := (nI 3)) hK dX0_read_50 rfl ?_
      refine aw_iload_n hK 2 dX0_read_51 rfl rfl ?_
      refine aw_imul hK dX0_read_52 ?_
      obtain ⟨hj, h⟩ := fw_is_h h
      refine aw_callX_i hK (fun _ _ _ _ q => rx_V (n := 2) hK (fw_rcvW hK fw_c3 hj) (fw_czX hZ (ct_X4_item q)) (lw_V q772 q773 q774 q101 q775) (by decide +kernel) (by decide) rfl rfl (Nat.le_of_ble_eq_true rfl) dX0_read_53) (fw_mt (n := 3) rfl) h (fun x L6 _ _ h => ?_) (fun v7 L6 _ _ h => ?_)
      · exact (fw_no h).elim
      refine aw_aload_n hK 1 dX0_read_56 rfl rfl ?_
      refine aw_aload_n hK 1 dX0_read_57 rfl rfl ?_
      obtain ⟨hj, h⟩ := fw_is_h h
      refine aw_callV_i (n := 0) hK fw_c3 hj (fun _ _ _ _ q => fw_czx hZ (ct_X4_type q)) (lw_V q771 q765 q766 q101 q767) (by decide +kernel) (by decide) rfl rfl (Nat.le_of_ble_eq_true rfl) dX0_read_58 h (fun v9 L8 _ _ h => ?_)
      refine aw_iconst (v := (nI 3)) hK dX0_read_61 rfl ?_
      refine aw_iload_n hK 2 dX0_read_62 rfl rfl ?_
      refine aw_imul hK dX0_read_63 ?_
      refine aw_iconst (v := (nI 1)) hK dX0_read_64 rfl ?_
      refine aw_iadd hK dX0_read_65 ?_
      obtain ⟨hj, h⟩ := fw_is_h h
      refine aw_callX_i hK (fun _ _ _ _ q => rx_V (n := 2) hK (fw_rcvW hK fw_c3 hj) (fw_czX hZ (ct_X4_item q)) (lw_V q772 q773 q774 q101 q775) (by decide +kernel) (by decide) rfl rfl (Nat.le_of_ble_eq_true rfl) dX0_read_66) (fw_mt (n := 3) rfl) h (fun x L10 _ _ h => ?_) (fun v11 L10 _ _ h => ?_)
      · exact (fw_no h).elim
      refine aw_aload_n hK 1 dX0_read_69 rfl rfl ?_
      refine aw_aload_n hK 1 dX0_read_70 rfl rfl ?_
      obtain ⟨hj, h⟩ := fw_is_h h
      refine aw_callV_i (n := 0) hK fw_c3 hj (fun _ _ _ _ q => fw_czx hZ (ct_X4_type q)) (lw_V q771 q765 q766 q101 q767) (by decide +kernel) (by decide) rfl rfl (Nat.le_of_ble_eq_true rfl) dX0_read_71 h (fun v13 L12 _ _ h => ?_)
      refine aw_iconst (v := (nI 3)) hK dX0_read_74 rfl ?_
      refine aw_iload_n hK 2 dX0_read_75 rfl rfl ?_
      refine aw_imul hK dX0_read_76 ?_
      refine aw_iconst (v := (nI 2)) hK dX0_read_77 rfl ?_
      refine aw_iadd hK dX0_read_78 ?_
      obtain ⟨hj, h⟩ := fw_is_h h
      refine aw_callX_i hK (fun _ _ _ _ q => rx_V (n := 2) hK (fw_rcvW hK fw_c3 hj) (fw_czX hZ (ct_X4_item q)) (lw_V q772 q773 q774 q101 q775) (by decide +kernel) (by decide) rfl rfl (Nat.le_of_ble_eq_true rfl) dX0_read_79) (fw_mt (n := 3) rfl) h (fun x L14 _ _ h => ?_) (fun v15 L14 _ _ h => ?_)
      · exact (fw_no h).elim
      obtain ⟨hj, h⟩ := fw_is_h h
      refine aw_callV_i (n := 3) hK fw_c0 hj (fun _ _ _ _ q => fw_czx hZ (ct_X0_event q)) (lw_V q776 q727 q728 q94 q729) (by decide +kernel) (by decide) rfl rfl (Nat.le_of_ble_eq_true rfl) dX0_read_82 h (fun v17 L16 _ _ h => ?_)
      refine aw_if_lt (tgt := 94) hK dX0_read_85 (by decide) h (fun h => ?_) (fun h => ?_)
      · refine aw_iload_n hK 2 dX0_read_94 rfl rfl ?_
        exact aw_iret hK dX0_read_95 h hF
      · refine aw_iinc (v := (x3 + (nI 1))) (lv' := [(3, aI (x3 + (nI 1))), (0, aR (some j0)), (2, aR (some j3))]) hK 2 dX0_read_88 rfl rfl (by decide) rfl ?_
        refine aw_goto (tgt := 32) hK dX0_read_91 (by decide) ?_
        exact aw_sub [1, 2, 0] rfl (ih h)
set_option maxHeartbeats 4000000 in
set_option maxRecDepth 100000 in
theorem w_X0_read_0 {K : Kx} {r9 : Int32} {L9 : LH} (hK : Ok K cX0_read 4 RX0 9 10270) (hZ : fw_isZ K) (hF : Fin K (some (.int)) (some (aI r9)) L9) {j0 : Nat} {x1 : Int32} {L : LH} {mc ms : Nat} (h : f_X0_read j0 x1 L = some (r9, L9, mc, ms)) : AW K L mc ms 0 [(0, aR (some j0)), (1, aI x1)] [] := by
  unfold f_X0_read at h
  refine aw_iload_n hK 1 dX0_read_0 rfl rfl ?_
  refine aw_callS_i (n := 1) hK (fun _ _ _ _ q => fw_czx hZ (ct_X0_isSheet q)) (lw_S q753 q754 q94 q755) (by decide +kernel) (by decide) rfl rfl (Nat.le_of_ble_eq_true rfl) dX0_read_1 h (fun v2 L1 _ _ h => ?_)
  refine aw_if_ne (tgt := 10) hK dX0_read_4 (by decide) h (fun h => ?_) (fun h => ?_)
  · refine aw_aload_n hK 0 dX0_read_10 rfl rfl ?_
    refine aw_gR hK fw_c0 24 (by decide) rfl q250 (fun _ h9 => h9) dX0_read_11 h (fun r3 h => ?_)
    refine aw_iload_n hK 1 dX0_read_14 rfl rfl ?_
    obtain _ | j4 := r3
    · exact (fw_nn_no h).elim
    replace h := fw_nn_so h
    refine aw_aald hK 9 (by decide) rfl dX0_read_15 h (fun r5 h => ?_)
    refine aw_astore_n (lv' := [(2, aR r5), (0, aR (some j0)), (1, aI x1)]) hK dX0_read_16 rfl (by decide) rfl ?_
    refine aw_aload_n hK 0 dX0_read_17 rfl rfl ?_
    obtain _ | j7 := r5
    · exact (fw_nn_no h).elim
    replace h := fw_nn_so h
    refine aw_gRN hK fw_c3 0 (by decide) rfl (fw_nsW hK hZ (w := Cond.fieldLinkNest "TugOfWar" 179 "TugOfWar$Sheet" "row" "Ljava/lang/Object;" "TugOfWar") (by decide)) (fun _ h9 => h9) dX0_read_18 h (fun r6 h => ?_)
    refine aw_ifnonnull (tgt := 30) hK dX0_read_21 (by decide) h (fun h => ?_) (fun h => ?_)
    · refine aw_iconst (v := (nI 0)) hK dX0_read_30 rfl ?_
      refine aw_istore_n (lv' := [(3, aI (nI 0)), (2, aR (some j7)), (0, aR (some j0)), (1, aI x1)]) hK dX0_read_31 rfl (by decide) rfl ?_
      exact aw_sub [2, 1, 0] rfl (w_X0_read_32 hK hZ hF h)
    · refine aw_aload_n hK 1 dX0_read_24 rfl rfl ?_
      refine aw_iconst (v := (nI 1)) hK dX0_read_25 rfl ?_
      obtain ⟨hj, h⟩ := fw_is_h h
      refine aw_callV_i (n := 1) hK fw_c0 hj (fun _ _ _ _ q => fw_czx hZ (ct_X0_met q)) (lw_V q756 q758 qs8 q94 q759) (by decide +kernel) (by decide) rfl rfl (Nat.le_of_ble_eq_true rfl) dX0_read_26 h (fun v9 L8 _ _ h => ?_)
      exact aw_iret hK dX0_read_29 h hF
  · refine aw_bipush (v := (-nI 2)) hK dX0_read_7 rfl ?_
    exact aw_iret hK dX0_read_9 h hF
theorem ct_X0_read {j0 : Nat} {x1 : Int32} {L : LH} {r9 : Int32} {L9 : LH} {mc ms : Nat} (h : f_X0_read j0 x1 L = some (r9, L9, mc, ms)) : fw_Cx yX0_read (ws_ yX0_read cX0_read 4 (some (.int))) 9 10270 [aR (some j0), aI x1] L (some (aI r9)) L9 mc ms :=
  fun b1 b2 => ct_of (own := RX0) fw_ZX_ok (by decide +kernel) rfl (Nat.le_of_ble_eq_true rfl) (fun K hZ hK hF hini => w_X0_read_0 hK ⟨b1, b2, hZ⟩ hF h)
def f_X0_seen (j0 : Nat) (x1 : Int32) (x2 : Int32) (L : LH) : Rs Int32 :=
  fw_cl (f_X0_isBeat x1 L) fun v2 L1 =>
  if v2 = 0 then (
    some ((-nI 2), L1, 0, 0)
  ) else (
    fw_cl (f_X0_in x2.toInt64 (0 : Int64) (24 : Int64) L1) fun v4 L3 =>
    if v4 = 0 then (
      some ((-nI 2), L3, 0, 0)
    ) else (
      fw_gR 1 L3 j0 20 fun r5 =>
      fw_nn r5 fun j8 =>
      fw_is 5 L3 j8 <|
      fw_cl (f_J2_size j8 L3) fun v7 L6 =>
      if v7 = (nI 8) then (
        some ((-nI 4), L6, 0, 0)
      ) else (
        fw_gR 1 L6 j0 20 fun r9 =>
        fw_na 100 (nI 2) L6 fun j10 L11 =>
        fw_wr 100 L11 j10 (nI 0) x1 fun L12 =>
        fw_wr 100 L12 j10 (nI 1) x2 fun L13 =>
        fw_nn r9 fun j16 =>
        fw_is 5 L13 j16 <|
        fw_cl (f_J2_add j16 (some j10) L13) fun v15 L14 =>
        fw_gR 1 L14 j0 20 fun r17 =>
        fw_nn r17 fun j20 =>
        fw_is 5 L14 j20 <|
        fw_cl (f_J2_size j20 L14) fun v19 L18 =>
        some (v19, L18, 0, 0)
      )
    )
  )
set_option maxHeartbeats 4000000 in
set_option maxRecDepth 100000 in
theorem w_X0_seen_0 {K : Kx} {r9 : Int32} {L9 : LH} (hK : Ok K cX0_seen 3 RX0 5 111) (hZ : fw_isZ K) (hF : Fin K (some (.int)) (some (aI r9)) L9) {j0 : Nat} {x1 : Int32} {x2 : Int32} {L : LH} {mc ms : Nat} (h : f_X0_seen j0 x1 x2 L = some (r9, L9, mc, ms)) : AW K L mc ms 0 [(0, aR (some j0)), (1, aI x1), (2, aI x2)] [] := by
  unfold f_X0_seen at h
  refine aw_iload_n hK 1 dX0_seen_0 rfl rfl ?_
  refine aw_callS_i (n := 1) hK (fun _ _ _ _ q => fw_czx hZ (ct_X0_isBeat q)) (lw_S q710 q711 q94 q712) (by decide +kernel) (by decide) rfl rfl (Nat.le_of_ble_eq_true rfl) dX0_seen_1 h (fun v2 L1 _ _ h => ?_)
  refine aw_if_eq (tgt := 19) hK dX0_seen_4 (by decide) h (fun h => ?_) (fun h => ?_)
  · refine aw_bipush (v := (-nI 2)) hK dX0_seen_19 rfl ?_
    exact aw_iret hK dX0_seen_21 h hF
  · refine aw_iload_n hK 2 dX0_seen_7 rfl rfl ?_
    refine aw_i2l hK dX0_seen_8 ?_
    refine aw_lconst (v := 0) hK dX0_seen_9 rfl ?_
    refine aw_ldc2 (v := 24) hK q971 dX0_seen_10 ?_
    refine aw_callS_i (n := 3) hK (fun _ _ _ _ q => fw_czx hZ (ct_X0_in q)) (lw_S q310 q311 q94 q312) (by decide +kernel) (by decide) rfl rfl (Nat.le_of_ble_eq_true rfl) dX0_seen_13 h (fun v4 L3 _ _ h => ?_)
    refine aw_if_ne (tgt := 22) hK dX0_seen_16 (by decide) h (fun h => ?_) (fun h => ?_)
    · refine aw_aload_n hK 0 dX0_seen_22 rfl rfl ?_
      refine aw_gR hK fw_c0 20 (by decide) rfl q246 (fun _ h9 => h9) dX0_seen_23 h (fun r5 h => ?_)
      obtain _ | j8 := r5
      · exact (fw_nn_no h).elim
      replace h := fw_nn_so h
      obtain ⟨hj, h⟩ := fw_is_h h
      refine aw_callV_i (n := 0) hK fw_c4 hj (fun _ _ _ _ q => fw_czx hZ (ct_J2_size q)) (lw_V q730 q385 q386 q99 q387) (by decide +kernel) (by decide) rfl rfl (Nat.le_of_ble_eq_true rfl) dX0_seen_26 h (fun v7 L6 _ _ h => ?_)
      refine aw_bipush (v := (nI 8)) hK dX0_seen_29 rfl ?_
      refine aw_icmp_ne (tgt := 37) hK dX0_seen_31 (by decide) h (fun h => ?_) (fun h => ?_)
      · refine aw_aload_n hK 0 dX0_seen_37 rfl rfl ?_
        refine aw_gR hK fw_c0 20 (by decide) rfl q246 (fun _ h9 => h9) dX0_seen_38 h (fun r9 h => ?_)
        refine aw_iconst (v := (nI 2)) hK dX0_seen_41 rfl ?_
        refine aw_newa hK 0 (by decide) rfl q207 dX0_seen_42 h (fun j10 L11 _ _ h => ?_)
        refine aw_dup hK dX0_seen_44 rfl ?_
        refine aw_iconst (v := (nI 0)) hK dX0_seen_45 rfl ?_
        refine aw_iload_n hK 1 dX0_seen_46 rfl rfl ?_
        refine aw_iast hK dX0_seen_47 h (fun L12 h => ?_)
        refine aw_dup hK dX0_seen_48 rfl ?_
        refine aw_iconst (v := (nI 1)) hK dX0_seen_49 rfl ?_
        refine aw_iload_n hK 2 dX0_seen_50 rfl rfl ?_
        refine aw_iast hK dX0_seen_51 h (fun L13 h => ?_)
        obtain _ | j16 := r9
        · exact (fw_nn_no h).elim
        replace h := fw_nn_so h
        obtain ⟨hj, h⟩ := fw_is_h h
        refine aw_callV_i (n := 1) hK fw_c4 hj (fun _ _ _ _ q => fw_czx hZ (ct_J2_add q)) (lw_V q731 q582 q583 q99 q584) (by decide +kernel) (by decide) rfl rfl (Nat.le_of_ble_eq_true rfl) dX0_seen_52 h (fun v15 L14 _ _ h => ?_)
        refine aw_pop hK dX0_seen_55 rfl ?_
        refine aw_aload_n hK 0 dX0_seen_56 rfl rfl ?_
        refine aw_gR hK fw_c0 20 (by decide) rfl q246 (fun _ h9 => h9) dX0_seen_57 h (fun r17 h => ?_)
        obtain _ | j20 := r17
        · exact (fw_nn_no h).elim
        replace h := fw_nn_so h
        obtain ⟨hj, h⟩ := fw_is_h h
        refine aw_callV_i (n := 0) hK fw_c4 hj (fun _ _ _ _ q => fw_czx hZ (ct_J2_size q)) (lw_V q730 q385 q386 q99 q387) (by decide +kernel) (by decide) rfl rfl (Nat.le_of_ble_eq_true rfl) dX0_seen_60 h (fun v19 L18 _ _ h => ?_)
        exact aw_iret hK dX0_seen_63 h hF
      · refine aw_bipush (v := (-nI 4)) hK dX0_seen_34 rfl ?_
        exact aw_iret hK dX0_seen_36 h hF
    · refine aw_bipush (v := (-nI 2)) hK dX0_seen_19 rfl ?_
      exact aw_iret hK dX0_seen_21 h hF
theorem ct_X0_seen {j0 : Nat} {x1 : Int32} {x2 : Int32} {L : LH} {r9 : Int32} {L9 : LH} {mc ms : Nat} (h : f_X0_seen j0 x1 x2 L = some (r9, L9, mc, ms)) : fw_Cx yX0_seen (ws_ yX0_seen cX0_seen 3 (some (.int))) 5 111 [aR (some j0), aI x1, aI x2] L (some (aI r9)) L9 mc ms :=
  fun b1 b2 => ct_of (own := RX0) fw_ZX_ok (by decide +kernel) rfl (Nat.le_of_ble_eq_true rfl) (fun K hZ hK hF hini => w_X0_seen_0 hK ⟨b1, b2, hZ⟩ hF h)
def f_X1_next (j0 : Nat) (L : LH) : Rs (Unit ⊕ XO) :=
  fw_cl (fw_td L j0 (f_X2_isFull j0 L) (f_X3_isFull j0 L)) fun v2 L1 =>
  if v2 = 0 then (
    fw_cx (fw_td L1 j0 (f_X2_part j0 L1) (f_X3_part j0 L1)) (fun x L3 => some (.inr x, L3, 0, 0)) fun _ L3 =>
    some (.inl (), L3, 0, 0)
  ) else (
    fw_nw 7 7 L1 fun j4 L5 =>
    fw_tI L5 j0 2 fun v6 =>
    fw_cl (f_X6_torn j4 v6 L5) fun _ L7 =>
    fw_is 7 L7 j4 <|
    some (.inr (.inl j4), L7, 0, 0)
  )
set_option maxHeartbeats 4000000 in
set_option maxRecDepth 100000 in
theorem w_X1_next_0 {K : Kx} {r9 : (Unit ⊕ XO)} {L9 : LH} (hK : Ok K cX1_next 1 RX1 6 135) (hZ : fw_isZ K) (hnt : ∀ x ∈ (kx_c K).exceptionTable.toList, False) (hF : FinX K none (fw_ox (fun _ => none) r9) L9) {j0 : Nat} {L : LH} {mc ms : Nat} (h : f_X1_next j0 L = some (r9, L9, mc, ms)) : AW K L mc ms 0 [(0, aR (some j0))] [] := by
  unfold f_X1_next at h
  refine aw_aload_n hK 0 dX1_next_0 rfl rfl ?_
  refine aw_callQ_i hK (fun _ _ _ _ q => fw_td_c q (fun hj q => rq_A (n := 0) hK (fw_rcvW hK fw_c1 hj) (fw_czx hZ (ct_X2_isFull q)) (lw_U q375 q377 q381 q382 q96 q383) (fw_nsD hK hZ (x := ⟨"TugOfWar$Text", "isFull", "()Z"⟩) (by decide)) (by decide +kernel) (by decide) rfl rfl (Nat.le_of_ble_eq_true rfl) dX1_next_1) (fun hj q => rq_A (n := 0) hK (fw_rcvW hK fw_c2 hj) (fw_czx hZ (ct_X3_isFull q)) (lw_U q375 q377 q378 q379 q100 q380) (fw_nsD hK hZ (x := ⟨"TugOfWar$Text", "isFull", "()Z"⟩) (by decide)) (by decide +kernel) (by decide) rfl rfl (Nat.le_of_ble_eq_true rfl) dX1_next_1)) (fw_mt (n := 1) rfl) h (fun v2 L1 _ _ h => ?_)
  refine aw_if_eq (tgt := 19) hK dX1_next_4 (by decide) h (fun h => ?_) (fun h => ?_)
  · refine aw_aload_n hK 0 dX1_next_19 rfl rfl ?_
    refine aw_callX_v hK (fun _ _ _ _ q => fw_td_c q (fun hj q => rx_A (n := 0) hK (fw_rcvW hK fw_c1 hj) (fw_czX hZ (ct_X2_part q)) (lw_U q453 q455 q552 q553 q96 q554) (fw_nsD hK hZ (x := ⟨"TugOfWar$Text", "part", "()V"⟩) (by decide)) (by decide +kernel) (by decide) rfl rfl (Nat.le_of_ble_eq_true rfl) dX1_next_20) (fun hj q => rx_A (n := 0) hK (fw_rcvW hK fw_c2 hj) (fw_czX hZ (ct_X3_part q)) (lw_U q453 q455 q456 q457 q100 q458) (fw_nsD hK hZ (x := ⟨"TugOfWar$Text", "part", "()V"⟩) (by decide)) (by decide +kernel) (by decide) rfl rfl (Nat.le_of_ble_eq_true rfl) dX1_next_20)) (fw_mt (n := 1) rfl) h (fun x L3 _ _ h => ?_) (fun _ L3 _ _ h => ?_)
    · exact ax_out hK hnt h hF
    exact aw_xvret hK dX1_next_23 h hF
  · refine aw_new hK fw_c6 q354 q388 q106 dX1_next_7 h (fun j4 L5 _ _ h => ?_)
    refine aw_dup hK dX1_next_10 rfl ?_
    refine aw_aload_n hK 0 dX1_next_11 rfl rfl ?_
    refine aw_tI hK 2 (by decide) rfl rfl rfl q171 (fun _ h9 => h9) dX1_next_12 h (fun v6 h => ?_)
    refine aw_callI (n := 1) (As := [aI v6]) hK (fun _ _ _ _ q => (fw_czx hZ (ct_X6_torn q))) (lw_meth q429) q106 q427 q428 rfl (by decide +kernel) (by decide) rfl rfl (Nat.le_of_ble_eq_true rfl) dX1_next_15 h (fun L7 _ _ h => ?_)
    obtain ⟨hj, h⟩ := fw_is_h h
    exact aw_athrow hK dX1_next_18 hj (ax_out hK hnt h hF)
theorem ct_X1_next {j0 : Nat} {L : LH} {r9 : (Unit ⊕ XO)} {L9 : LH} {mc ms : Nat} (h : f_X1_next j0 L = some (r9, L9, mc, ms)) : fw_CxX yX1_next (ws_ yX1_next cX1_next 1 none) 6 135 [aR (some j0)] L (fw_ox (fun _ => none) r9) L9 mc ms :=
  fun b1 b2 => ctx_of (own := RX1) fw_ZX_ok (by decide +kernel) rfl (Nat.le_of_ble_eq_true rfl) (fun K hZ hK hF hnt => w_X1_next_0 hK ⟨b1, b2, hZ⟩ hnt hF h)
def f_X1_reads_44 (j0 : Nat) (sr0 : Option Nat) (L : LH) : Rs Int32 :=
  fw_cl (fw_td L j0 (f_X2_clear j0 L) (f_X3_clear j0 L)) fun _ L1 =>
  fw_nn sr0 fun j3 =>
  fw_gI 7 L1 j3 6 fun v2 =>
  some (v2, L1, 0, 0)
def f_X1_reads_20 : Nat → Nat → LH → Rs Int32
  | 0, _, _ => none
  | n + 1, j0, L =>
    fw_tI L j0 2 fun v1 =>
    fw_tI L j0 1 fun v2 =>
    if v2 ≤ v1 then (
      some ((-nI 1), L, 0, 0)
    ) else (
      fw_cx (fw_td L j0 (f_X2_between j0 L) (f_X1_between j0 L)) (fun x L3 => fw_tj x fun jx => f_X1_reads_44 j0 (some jx) L3) fun _ L3 =>
      fw_cx (fw_td L3 j0 (f_X1_next j0 L3) (f_X1_next j0 L3)) (fun x L4 => fw_tj x fun jx => f_X1_reads_44 j0 (some jx) L4) fun _ L4 =>
      f_X1_reads_20 n j0 L4
    )
def f_X1_reads (j0 : Nat) (L : LH) : Rs Int32 :=
  fw_tpI L j0 2 (nI 0) fun L1 =>
  fw_cl (fw_td L1 j0 (f_X2_clear j0 L1) (f_X3_clear j0 L1)) fun _ L2 =>
  fw_tI L2 j0 1 fun v3 =>
  if v3 ≤ 0 then (
    f_X1_reads_20 fw_fuel j0 L2
  ) else (
    fw_cx (fw_td L2 j0 (f_X1_next j0 L2) (f_X1_next j0 L2)) (fun x L4 => fw_tj x fun jx => f_X1_reads_44 j0 (some jx) L4) fun _ L4 =>
    f_X1_reads_20 fw_fuel j0 L4
  )
set_option maxHeartbeats 4000000 in
set_option maxRecDepth 100000 in
theorem w_X1_reads_44 {K : Kx} {r9 : Int32} {L9 : LH} (hK : Ok K cX1_reads 2 RX1 7 155) (hZ : fw_isZ K) (htab : (kx_c K).exceptionTable.toList = tableOf [(9, 43, 44, 32)]) (hF : Fin K (some (.int)) (some (aI r9)) L9) {j0 : Nat} {sr0 : Option Nat} {L : LH} {mc ms : Nat} (h : f_X1_reads_44 j0 sr0 L = some (r9, L9, mc, ms)) : AW K L mc ms 44 [(0, aR (some j0))] [aR sr0] := by
  unfold f_X1_reads_44 at h
  refine aw_astore_n (lv' := [(1, aR sr0), (0, aR (some j0))]) hK dX1_reads_44 rfl (by decide) rfl ?_
  refine aw_aload_n hK 1 dX1_reads_45 rfl rfl ?_
  refine aw_callQ_v hK (fun _ _ _ _ q => fw_td_c q (fun hj q => rq_A (n := 0) hK (fw_rcvW hK fw_c1 hj) (fw_czx hZ (ct_X2_clear q)) (lw_U q355 q357 q364 q365 q96 q366) (fw_nsD hK hZ (x := ⟨"TugOfWar$Text", "clear", "()V"⟩) (by decide)) (by decide +kernel) (by decide) rfl rfl (Nat.le_of_ble_eq_true rfl) dX1_reads_46) (fun hj q => rq_A (n := 0) hK (fw_rcvW hK fw_c2 hj) (fw_czx hZ (ct_X3_clear q)) (lw_U q355 q357 q358 q359 q100 q360) (fw_nsD hK hZ (x := ⟨"TugOfWar$Text", "clear", "()V"⟩) (by decide)) (by decide +kernel) (by decide) rfl rfl (Nat.le_of_ble_eq_true rfl) dX1_reads_46)) (fw_mt (n := 1) rfl) h (fun _ L1 _ _ h => ?_)
  refine aw_aload_n hK 0 dX1_reads_49 rfl rfl ?_
  obtain _ | j3 := sr0
  · exact (fw_nn_no h).elim
  replace h := fw_nn_so h
  refine aw_gIN hK fw_c6 6 (by decide) rfl (fw_nsW hK hZ (w := Cond.fieldLinkNest "TugOfWar$Text" 53 "TugOfWar$Torn" "place" "I" "TugOfWar") (by decide)) (fun _ h9 => h9) dX1_reads_50 h (fun v2 h => ?_)
  exact aw_iret hK dX1_reads_53 h hF
set_option maxHeartbeats 4000000 in
set_option maxRecDepth 100000 in
theorem w_X1_reads_20 {K : Kx} {r9 : Int32} {L9 : LH} (hK : Ok K cX1_reads 2 RX1 7 155) (hZ : fw_isZ K) (htab : (kx_c K).exceptionTable.toList = tableOf [(9, 43, 44, 32)]) (hF : Fin K (some (.int)) (some (aI r9)) L9) : ∀ {n : Nat} {j0 : Nat} {L : LH} {mc ms : Nat}, f_X1_reads_20 n j0 L = some (r9, L9, mc, ms) → AW K L mc ms 20 [(0, aR (some j0))] [] := by
  intro n
  induction n with
  | zero =>
    intro j0 L mc ms h
    have h : (none : Rs Int32) = some (r9, L9, mc, ms) := h
    cases h
  | succ n ih =>
    intro j0 L mc ms h
    unfold f_X1_reads_20 at h
    refine aw_aload_n hK 0 dX1_reads_20 rfl rfl ?_
    refine aw_tI hK 2 (by decide) rfl rfl rfl q171 (fun _ h9 => h9) dX1_reads_21 h (fun v1 h => ?_)
    refine aw_aload_n hK 0 dX1_reads_24 rfl rfl ?_
    refine aw_tI hK 1 (by decide) rfl rfl rfl q170 (fun _ h9 => h9) dX1_reads_25 h (fun v2 h => ?_)
    refine aw_icmp_ge (tgt := 42) hK dX1_reads_28 (by decide) h (fun h => ?_) (fun h => ?_)
    · refine aw_iconst (v := (-nI 1)) hK dX1_reads_42 rfl ?_
      exact aw_iret hK dX1_reads_43 h hF
    · refine aw_aload_n hK 0 dX1_reads_31 rfl rfl ?_
      refine aw_callX_v hK (fun _ _ _ _ q => fw_td_c q (fun hj q => rx_O (n := 0) hK (fw_rcvW hK fw_c1 hj) (fw_czX hZ (ct_X2_between q)) (lw_O q638 q640 q639 q642 q643 q96 q644) q646 (by decide +kernel) (by decide) rfl rfl (Nat.le_of_ble_eq_true rfl) dX1_reads_32) (fun hj q => rx_U (n := 0) hK (fw_rcvW hK fw_c2 hj) (fw_czX hZ (ct_X1_between q)) (lw_U q638 q640 q641 q639 q95 q646) rfl (by decide +kernel) (by decide) rfl rfl (Nat.le_of_ble_eq_true rfl) dX1_reads_32)) (fw_mt (n := 1) rfl) h (fun x L3 _ _ h => ?_) (fun _ L3 _ _ h => ?_)
      · obtain jx | E := x
        · refine ax_catch hK hZ (name := "TugOfWar$Torn") htab (by decide) (by decide) q354 (by decide) ?_
          exact w_X1_reads_44 hK hZ htab hF h
        · exact (fw_no h).elim
      refine aw_aload_n hK 0 dX1_reads_35 rfl rfl ?_
      refine aw_callX_v hK (fun _ _ _ _ q => fw_td_c q (fun hj q => rx_P (n := 0) (C := "TugOfWar$Team") hK (fw_rcvW hK fw_c1 hj) (fw_czX hZ (ct_X1_next q)) (lw_meth q374) q371 q373 q95 (fw_nss hK hZ (q := ("TugOfWar$Team", ⟨"TugOfWar$Text", "next", "()V"⟩)) (by decide)) (by decide +kernel) (by decide) rfl rfl (Nat.le_of_ble_eq_true rfl) dX1_reads_36) (fun hj q => rx_P (n := 0) (C := "TugOfWar$Captain") hK (fw_rcvW hK fw_c2 hj) (fw_czX hZ (ct_X1_next q)) (lw_meth q374) q371 q373 q95 (fw_nss hK hZ (q := ("TugOfWar$Captain", ⟨"TugOfWar$Text", "next", "()V"⟩)) (by decide)) (by decide +kernel) (by decide) rfl rfl (Nat.le_of_ble_eq_true rfl) dX1_reads_36)) (fw_mt (n := 1) rfl) h (fun x L4 _ _ h => ?_) (fun _ L4 _ _ h => ?_)
      · obtain jx | E := x
        · refine ax_catch hK hZ (name := "TugOfWar$Torn") htab (by decide) (by decide) q354 (by decide) ?_
          exact w_X1_reads_44 hK hZ htab hF h
        · exact (fw_no h).elim
      refine aw_goto (tgt := 20) hK dX1_reads_39 (by decide) ?_
      exact ih h
set_option maxHeartbeats 4000000 in
set_option maxRecDepth 100000 in
theorem w_X1_reads_0 {K : Kx} {r9 : Int32} {L9 : LH} (hK : Ok K cX1_reads 2 RX1 7 155) (hZ : fw_isZ K) (htab : (kx_c K).exceptionTable.toList = tableOf [(9, 43, 44, 32)]) (hF : Fin K (some (.int)) (some (aI r9)) L9) {j0 : Nat} {L : LH} {mc ms : Nat} (h : f_X1_reads j0 L = some (r9, L9, mc, ms)) : AW K L mc ms 0 [(0, aR (some j0))] [] := by
  unfold f_X1_reads at h
  refine aw_aload_n hK 0 dX1_reads_0 rfl rfl ?_
  refine aw_iconst (v := (nI 0)) hK dX1_reads_1 rfl ?_
  refine aw_tpI hK 2 (by decide) rfl rfl rfl q171 (fun _ h9 => h9) rfl rfl rfl dX1_reads_2 h (fun L1 h => ?_)
  refine aw_aload_n hK 0 dX1_reads_5 rfl rfl ?_
  refine aw_callQ_v hK (fun _ _ _ _ q => fw_td_c q (fun hj q => rq_A (n := 0) hK (fw_rcvW hK fw_c1 hj) (fw_czx hZ (ct_X2_clear q)) (lw_U q355 q357 q364 q365 q96 q366) (fw_nsD hK hZ (x := ⟨"TugOfWar$Text", "clear", "()V"⟩) (by decide)) (by decide +kernel) (by decide) rfl rfl (Nat.le_of_ble_eq_true rfl) dX1_reads_6) (fun hj q => rq_A (n := 0) hK (fw_rcvW hK fw_c2 hj) (fw_czx hZ (ct_X3_clear q)) (lw_U q355 q357 q358 q359 q100 q360) (fw_nsD hK hZ (x := ⟨"TugOfWar$Text", "clear", "()V"⟩) (by decide)) (by decide +kernel) (by decide) rfl rfl (Nat.le_of_ble_eq_true rfl) dX1_reads_6)) (fw_mt (n := 1) rfl) h (fun _ L2 _ _ h => ?_)
  refine aw_aload_n hK 0 dX1_reads_9 rfl rfl ?_
  refine aw_tI hK 1 (by decide) rfl rfl rfl q170 (fun _ h9 => h9) dX1_reads_10 h (fun v3 h => ?_)
  refine aw_if_le (tgt := 20) hK dX1_reads_13 (by decide) h (fun h => ?_) (fun h => ?_)
  · exact w_X1_reads_20 hK hZ htab hF h
  · refine aw_aload_n hK 0 dX1_reads_16 rfl rfl ?_
    refine aw_callX_v hK (fun _ _ _ _ q => fw_td_c q (fun hj q => rx_P (n := 0) (C := "TugOfWar$Team") hK (fw_rcvW hK fw_c1 hj) (fw_czX hZ (ct_X1_next q)) (lw_meth q374) q371 q373 q95 (fw_nss hK hZ (q := ("TugOfWar$Team", ⟨"TugOfWar$Text", "next", "()V"⟩)) (by decide)) (by decide +kernel) (by decide) rfl rfl (Nat.le_of_ble_eq_true rfl) dX1_reads_17) (fun hj q => rx_P (n := 0) (C := "TugOfWar$Captain") hK (fw_rcvW hK fw_c2 hj) (fw_czX hZ (ct_X1_next q)) (lw_meth q374) q371 q373 q95 (fw_nss hK hZ (q := ("TugOfWar$Captain", ⟨"TugOfWar$Text", "next", "()V"⟩)) (by decide)) (by decide +kernel) (by decide) rfl rfl (Nat.le_of_ble_eq_true rfl) dX1_reads_17)) (fw_mt (n := 1) rfl) h (fun x L4 _ _ h => ?_) (fun _ L4 _ _ h => ?_)
    · obtain jx | E := x
      · refine ax_catch hK hZ (name := "TugOfWar$Torn") htab (by decide) (by decide) q354 (by decide) ?_
        exact w_X1_reads_44 hK hZ htab hF h
      · exact (fw_no h).elim
    exact w_X1_reads_20 hK hZ htab hF h
theorem ct_X1_reads {j0 : Nat} {L : LH} {r9 : Int32} {L9 : LH} {mc ms : Nat} (h : f_X1_reads j0 L = some (r9, L9, mc, ms)) : fw_Cx yX1_reads (wsW_ yX1_reads cX1_reads 2 (some (.int)) [(9, 43, 44, 32)]) 7 155 [aR (some j0)] L (some (aI r9)) L9 mc ms :=
  fun b1 b2 => ct_ofT (own := RX1) fw_ZX_ok (by decide +kernel) rfl (Nat.le_of_ble_eq_true rfl) (fun K hZ hK hF htab => w_X1_reads_0 hK ⟨b1, b2, hZ⟩ htab hF h)
def f_X1_read_15 (j0 : Nat) (L : LH) : Rs Int32 :=
  fw_tpI L j0 3 (nI 1) fun L1 =>
  fw_tI L1 j0 4 fun v2 =>
  some (v2, L1, 0, 0)
def f_X1_read (j0 : Nat) (L : LH) : Rs Int32 :=
  fw_tI L j0 3 fun v1 =>
  if v1 = 0 then (
    fw_cl (fw_td L j0 (f_X1_reads j0 L) (f_X1_reads j0 L)) fun v3 L2 =>
    fw_tpI L2 j0 4 v3 fun L4 =>
    f_X1_read_15 j0 L4
  ) else (
    f_X1_read_15 j0 L
  )
set_option maxHeartbeats 4000000 in
set_option maxRecDepth 100000 in
theorem w_X1_read_15 {K : Kx} {r9 : Int32} {L9 : LH} (hK : Ok K cX1_read 1 RX1 8 176) (hZ : fw_isZ K) (hF : Fin K (some (.int)) (some (aI r9)) L9) {j0 : Nat} {L : LH} {mc ms : Nat} (h : f_X1_read_15 j0 L = some (r9, L9, mc, ms)) : AW K L mc ms 15 [(0, aR (some j0))] [] := by
  unfold f_X1_read_15 at h
  refine aw_aload_n hK 0 dX1_read_15 rfl rfl ?_
  refine aw_iconst (v := (nI 1)) hK dX1_read_16 rfl ?_
  refine aw_tpI hK 3 (by decide) rfl rfl rfl q172 (fun _ h9 => h9) rfl rfl rfl dX1_read_17 h (fun L1 h => ?_)
  refine aw_aload_n hK 0 dX1_read_20 rfl rfl ?_
  refine aw_tI hK 4 (by decide) rfl rfl rfl q173 (fun _ h9 => h9) dX1_read_21 h (fun v2 h => ?_)
  exact aw_iret hK dX1_read_24 h hF
set_option maxHeartbeats 4000000 in
set_option maxRecDepth 100000 in
theorem w_X1_read_0 {K : Kx} {r9 : Int32} {L9 : LH} (hK : Ok K cX1_read 1 RX1 8 176) (hZ : fw_isZ K) (hF : Fin K (some (.int)) (some (aI r9)) L9) {j0 : Nat} {L : LH} {mc ms : Nat} (h : f_X1_read j0 L = some (r9, L9, mc, ms)) : AW K L mc ms 0 [(0, aR (some j0))] [] := by
  unfold f_X1_read at h
  refine aw_aload_n hK 0 dX1_read_0 rfl rfl ?_
  refine aw_tI hK 3 (by decide) rfl rfl rfl q172 (fun _ h9 => h9) dX1_read_1 h (fun v1 h => ?_)
  refine aw_if_ne (tgt := 15) hK dX1_read_4 (by decide) h (fun h => ?_) (fun h => ?_)
  · exact w_X1_read_15 hK hZ hF h
  · refine aw_aload_n hK 0 dX1_read_7 rfl rfl ?_
    refine aw_aload_n hK 0 dX1_read_8 rfl rfl ?_
    refine aw_callQ_i hK (fun _ _ _ _ q => fw_td_c q (fun hj q => rq_PW (n := 0) (C := "TugOfWar$Team") hK (fw_rcvW hK fw_c1 hj) (fw_czx hZ (ct_X1_reads q)) (lw_methW q353) q350 q352 q95 (fw_nss hK hZ (q := ("TugOfWar$Team", ⟨"TugOfWar$Text", "reads", "()I"⟩)) (by decide)) (by decide +kernel) (by decide) rfl rfl (Nat.le_of_ble_eq_true rfl) dX1_read_9) (fun hj q => rq_PW (n := 0) (C := "TugOfWar$Captain") hK (fw_rcvW hK fw_c2 hj) (fw_czx hZ (ct_X1_reads q)) (lw_methW q353) q350 q352 q95 (fw_nss hK hZ (q := ("TugOfWar$Captain", ⟨"TugOfWar$Text", "reads", "()I"⟩)) (by decide)) (by decide +kernel) (by decide) rfl rfl (Nat.le_of_ble_eq_true rfl) dX1_read_9)) (fw_mt (n := 1) rfl) h (fun v3 L2 _ _ h => ?_)
    refine aw_tpI hK 4 (by decide) rfl rfl rfl q173 (fun _ h9 => h9) rfl rfl rfl dX1_read_12 h (fun L4 h => ?_)
    exact w_X1_read_15 hK hZ hF h
theorem ct_X1_read {j0 : Nat} {L : LH} {r9 : Int32} {L9 : LH} {mc ms : Nat} (h : f_X1_read j0 L = some (r9, L9, mc, ms)) : fw_Cx yX1_read (ws_ yX1_read cX1_read 1 (some (.int))) 8 176 [aR (some j0)] L (some (aI r9)) L9 mc ms :=
  fun b1 b2 => ct_of (own := RX1) fw_ZX_ok (by decide +kernel) rfl (Nat.le_of_ble_eq_true rfl) (fun K hZ hK hF hini => w_X1_read_0 hK ⟨b1, b2, hZ⟩ hF h)
def f_X2_many (j0 : Nat) (L : LH) : Rs Int32 :=
  fw_is 2 L j0 <|
  fw_cl (f_X1_read j0 L) fun v2 L1 =>
  fw_gR 2 L1 j0 5 fun r3 =>
  fw_nn r3 fun j6 =>
  fw_is 5 L1 j6 <|
  fw_cl (f_J2_size j6 L1) fun v5 L4 =>
  some (v5, L4, 0, 0)
set_option maxHeartbeats 4000000 in
set_option maxRecDepth 100000 in
theorem w_X2_many_0 {K : Kx} {r9 : Int32} {L9 : LH} (hK : Ok K cX2_many 1 RX2 9 196) (hZ : fw_isZ K) (hF : Fin K (some (.int)) (some (aI r9)) L9) {j0 : Nat} {L : LH} {mc ms : Nat} (h : f_X2_many j0 L = some (r9, L9, mc, ms)) : AW K L mc ms 0 [(0, aR (some j0))] [] := by
  unfold f_X2_many at h
  refine aw_aload_n hK 0 dX2_many_0 rfl rfl ?_
  obtain ⟨hj, h⟩ := fw_is_h h
  refine aw_callQ_i hK (fun _ _ _ _ q => rq_U (n := 0) hK (fw_rcvW hK fw_c1 hj) (fw_czx hZ (ct_X1_read q)) (lw_U q660 q661 q663 q345 q95 q349) rfl (by decide +kernel) (by decide) rfl rfl (Nat.le_of_ble_eq_true rfl) dX2_many_1) (fw_mt (n := 1) rfl) h (fun v2 L1 _ _ h => ?_)
  refine aw_pop hK dX2_many_4 rfl ?_
  refine aw_aload_n hK 0 dX2_many_5 rfl rfl ?_
  refine aw_gR hK fw_c1 5 (by decide) rfl q167 (fun _ h9 => h9) dX2_many_6 h (fun r3 h => ?_)
  obtain _ | j6 := r3
  · exact (fw_nn_no h).elim
  replace h := fw_nn_so h
  obtain ⟨hj, h⟩ := fw_is_h h
  refine aw_callV_i (n := 0) hK fw_c4 hj (fun _ _ _ _ q => fw_czx hZ (ct_J2_size q)) (lw_V q384 q385 q386 q99 q387) (by decide +kernel) (by decide) rfl rfl (Nat.le_of_ble_eq_true rfl) dX2_many_9 h (fun v5 L4 _ _ h => ?_)
  exact aw_iret hK dX2_many_12 h hF
theorem ct_X2_many {j0 : Nat} {L : LH} {r9 : Int32} {L9 : LH} {mc ms : Nat} (h : f_X2_many j0 L = some (r9, L9, mc, ms)) : fw_Cx yX2_many (ws_ yX2_many cX2_many 1 (some (.int))) 9 196 [aR (some j0)] L (some (aI r9)) L9 mc ms :=
  fun b1 b2 => ct_of (own := RX2) fw_ZX_ok (by decide +kernel) rfl (Nat.le_of_ble_eq_true rfl) (fun K hZ hK hF hini => w_X2_many_0 hK ⟨b1, b2, hZ⟩ hF h)
def f_X3_many (j0 : Nat) (L : LH) : Rs Int32 :=
  fw_is 3 L j0 <|
  fw_cl (f_X1_read j0 L) fun v2 L1 =>
  fw_gI 3 L1 j0 6 fun v3 =>
  some (v3, L1, 0, 0)
set_option maxHeartbeats 4000000 in
set_option maxRecDepth 100000 in
theorem w_X3_many_0 {K : Kx} {r9 : Int32} {L9 : LH} (hK : Ok K cX3_many 1 RX3 9 196) (hZ : fw_isZ K) (hF : Fin K (some (.int)) (some (aI r9)) L9) {j0 : Nat} {L : LH} {mc ms : Nat} (h : f_X3_many j0 L = some (r9, L9, mc, ms)) : AW K L mc ms 0 [(0, aR (some j0))] [] := by
  unfold f_X3_many at h
  refine aw_aload_n hK 0 dX3_many_0 rfl rfl ?_
  obtain ⟨hj, h⟩ := fw_is_h h
  refine aw_callQ_i hK (fun _ _ _ _ q => rq_U (n := 0) hK (fw_rcvW hK fw_c2 hj) (fw_czx hZ (ct_X1_read q)) (lw_U q1160 q719 q720 q345 q95 q349) rfl (by decide +kernel) (by decide) rfl rfl (Nat.le_of_ble_eq_true rfl) dX3_many_1) (fw_mt (n := 1) rfl) h (fun v2 L1 _ _ h => ?_)
  refine aw_pop hK dX3_many_4 rfl ?_
  refine aw_aload_n hK 0 dX3_many_5 rfl rfl ?_
  refine aw_gI hK fw_c2 6 (by decide) rfl q196 (fun _ h9 => h9) dX3_many_6 h (fun v3 h => ?_)
  exact aw_iret hK dX3_many_9 h hF
theorem ct_X3_many {j0 : Nat} {L : LH} {r9 : Int32} {L9 : LH} {mc ms : Nat} (h : f_X3_many j0 L = some (r9, L9, mc, ms)) : fw_Cx yX3_many (ws_ yX3_many cX3_many 1 (some (.int))) 9 196 [aR (some j0)] L (some (aI r9)) L9 mc ms :=
  fun b1 b2 => ct_of (own := RX3) fw_ZX_ok (by decide +kernel) rfl (Nat.le_of_ble_eq_true rfl) (fun K hZ hK hF hini => w_X3_many_0 hK ⟨b1, b2, hZ⟩ hF h)
def f_X0_fault (j0 : Nat) (x1 : Int32) (L : LH) : Rs Int32 :=
  fw_cl (f_X0_isText x1 L) fun v2 L1 =>
  if v2 = 0 then (
    some ((-nI 2), L1, 0, 0)
  ) else (
    fw_gR 1 L1 j0 3 fun r3 =>
    fw_nn r3 fun j4 =>
    fw_rq 108 L1 j4 x1 fun r5 =>
    fw_nn r5 fun j8 =>
    fw_cl (fw_td L1 j8 (f_X1_read j8 L1) (f_X1_read j8 L1)) fun v7 L6 =>
    some (v7, L6, 0, 0)
  )
set_option maxHeartbeats 4000000 in
set_option maxRecDepth 100000 in
theorem w_X0_fault_0 {K : Kx} {r9 : Int32} {L9 : LH} (hK : Ok K cX0_fault 2 RX0 9 196) (hZ : fw_isZ K) (hF : Fin K (some (.int)) (some (aI r9)) L9) {j0 : Nat} {x1 : Int32} {L : LH} {mc ms : Nat} (h : f_X0_fault j0 x1 L = some (r9, L9, mc, ms)) : AW K L mc ms 0 [(0, aR (some j0)), (1, aI x1)] [] := by
  unfold f_X0_fault at h
  refine aw_iload_n hK 1 dX0_fault_0 rfl rfl ?_
  refine aw_callS_i (n := 1) hK (fun _ _ _ _ q => fw_czx hZ (ct_X0_isText q)) (lw_S q306 q307 q94 q308) (by decide +kernel) (by decide) rfl rfl (Nat.le_of_ble_eq_true rfl) dX0_fault_1 h (fun v2 L1 _ _ h => ?_)
  refine aw_if_eq (tgt := 19) hK dX0_fault_4 (by decide) h (fun h => ?_) (fun h => ?_)
  · refine aw_bipush (v := (-nI 2)) hK dX0_fault_19 rfl ?_
    exact aw_iret hK dX0_fault_21 h hF
  · refine aw_aload_n hK 0 dX0_fault_7 rfl rfl ?_
    refine aw_gR hK fw_c0 3 (by decide) rfl q229 (fun _ h9 => h9) dX0_fault_8 h (fun r3 h => ?_)
    refine aw_iload_n hK 1 dX0_fault_11 rfl rfl ?_
    obtain _ | j4 := r3
    · exact (fw_nn_no h).elim
    replace h := fw_nn_so h
    refine aw_aald hK 8 (by decide) rfl dX0_fault_12 h (fun r5 h => ?_)
    obtain _ | j8 := r5
    · exact (fw_nn_no h).elim
    replace h := fw_nn_so h
    refine aw_callQ_i hK (fun _ _ _ _ q => fw_td_c q (fun hj q => rq_U (n := 0) hK (fw_rcvW hK fw_c1 hj) (fw_czx hZ (ct_X1_read q)) (lw_U q344 q346 q348 q345 q95 q349) rfl (by decide +kernel) (by decide) rfl rfl (Nat.le_of_ble_eq_true rfl) dX0_fault_13) (fun hj q => rq_U (n := 0) hK (fw_rcvW hK fw_c2 hj) (fw_czx hZ (ct_X1_read q)) (lw_U q344 q346 q347 q345 q95 q349) rfl (by decide +kernel) (by decide) rfl rfl (Nat.le_of_ble_eq_true rfl) dX0_fault_13)) (fw_mt (n := 1) rfl) h (fun v7 L6 _ _ h => ?_)
    refine aw_goto (tgt := 21) hK dX0_fault_16 (by decide) ?_
    exact aw_iret hK dX0_fault_21 h hF
theorem ct_X0_fault {j0 : Nat} {x1 : Int32} {L : LH} {r9 : Int32} {L9 : LH} {mc ms : Nat} (h : f_X0_fault j0 x1 L = some (r9, L9, mc, ms)) : fw_Cx yX0_fault (ws_ yX0_fault cX0_fault 2 (some (.int))) 9 196 [aR (some j0), aI x1] L (some (aI r9)) L9 mc ms :=
  fun b1 b2 => ct_of (own := RX0) fw_ZX_ok (by decide +kernel) rfl (Nat.le_of_ble_eq_true rfl) (fun K hZ hK hF hini => w_X0_fault_0 hK ⟨b1, b2, hZ⟩ hF h)
def f_X0_isPuller (j0 : Nat) (x1 : Int32) (L : LH) : Rs Int32 :=
  fw_cl (f_X0_in x1.toInt64 (0 : Int64) (15 : Int64) L) fun v2 L1 =>
  if v2 = 0 then (
    some ((nI 0), L1, 0, 0)
  ) else (
    fw_gR 1 L1 j0 1 fun r3 =>
    fw_nn r3 fun j4 =>
    fw_rq 106 L1 j4 (x1 / (nI 8)) fun r5 =>
    fw_nn r5 fun j8 =>
    fw_is 2 L1 j8 <|
    fw_cl (f_X2_many j8 L1) fun v7 L6 =>
    if v7 ≤ (x1 - x1 / (nI 8) * (nI 8)) then (
      some ((nI 0), L6, 0, 0)
    ) else (
      some ((nI 1), L6, 0, 0)
    )
  )
set_option maxHeartbeats 4000000 in
set_option maxRecDepth 100000 in
theorem w_X0_isPuller_0 {K : Kx} {r9 : Int32} {L9 : LH} (hK : Ok K cX0_isPuller 2 RX0 10 216) (hZ : fw_isZ K) (hF : Fin K (some (.boolean)) (some (aI r9)) L9) {j0 : Nat} {x1 : Int32} {L : LH} {mc ms : Nat} (h : f_X0_isPuller j0 x1 L = some (r9, L9, mc, ms)) : AW K L mc ms 0 [(0, aR (some j0)), (1, aI x1)] [] := by
  unfold f_X0_isPuller at h
  refine aw_iload_n hK 1 dX0_isPuller_0 rfl rfl ?_
  refine aw_i2l hK dX0_isPuller_1 ?_
  refine aw_lconst (v := 0) hK dX0_isPuller_2 rfl ?_
  refine aw_ldc2 (v := 15) hK q655 dX0_isPuller_3 ?_
  refine aw_callS_i (n := 3) hK (fun _ _ _ _ q => fw_czx hZ (ct_X0_in q)) (lw_S q310 q311 q94 q312) (by decide +kernel) (by decide) rfl rfl (Nat.le_of_ble_eq_true rfl) dX0_isPuller_6 h (fun v2 L1 _ _ h => ?_)
  refine aw_if_eq (tgt := 35) hK dX0_isPuller_9 (by decide) h (fun h => ?_) (fun h => ?_)
  · refine aw_iconst (v := (nI 0)) hK dX0_isPuller_35 rfl ?_
    exact aw_zret hK (by decide) dX0_isPuller_36 h hF
  · refine aw_iload_n hK 1 dX0_isPuller_12 rfl rfl ?_
    refine aw_bipush (v := (nI 8)) hK dX0_isPuller_13 rfl ?_
    refine aw_irem hK dX0_isPuller_15 (by decide) ?_
    refine aw_aload_n hK 0 dX0_isPuller_16 rfl rfl ?_
    refine aw_gR hK fw_c0 1 (by decide) rfl q227 (fun _ h9 => h9) dX0_isPuller_17 h (fun r3 h => ?_)
    refine aw_iload_n hK 1 dX0_isPuller_20 rfl rfl ?_
    refine aw_bipush (v := (nI 8)) hK dX0_isPuller_21 rfl ?_
    refine aw_idiv hK dX0_isPuller_23 (by decide) ?_
    obtain _ | j4 := r3
    · exact (fw_nn_no h).elim
    replace h := fw_nn_so h
    refine aw_aald hK 6 (by decide) rfl dX0_isPuller_24 h (fun r5 h => ?_)
    obtain _ | j8 := r5
    · exact (fw_nn_no h).elim
    replace h := fw_nn_so h
    obtain ⟨hj, h⟩ := fw_is_h h
    refine aw_callV_i (n := 0) hK fw_c1 hj (fun _ _ _ _ q => fw_czx hZ (ct_X2_many q)) (lw_V q656 q657 q658 q96 q659) (by decide +kernel) (by decide) rfl rfl (Nat.le_of_ble_eq_true rfl) dX0_isPuller_25 h (fun v7 L6 _ _ h => ?_)
    refine aw_icmp_ge (tgt := 35) hK dX0_isPuller_28 (by decide) h (fun h => ?_) (fun h => ?_)
    · refine aw_iconst (v := (nI 0)) hK dX0_isPuller_35 rfl ?_
      exact aw_zret hK (by decide) dX0_isPuller_36 h hF
    · refine aw_iconst (v := (nI 1)) hK dX0_isPuller_31 rfl ?_
      refine aw_goto (tgt := 36) hK dX0_isPuller_32 (by decide) ?_
      exact aw_zret hK (by decide) dX0_isPuller_36 h hF
theorem ct_X0_isPuller {j0 : Nat} {x1 : Int32} {L : LH} {r9 : Int32} {L9 : LH} {mc ms : Nat} (h : f_X0_isPuller j0 x1 L = some (r9, L9, mc, ms)) : fw_Cx yX0_isPuller (ws_ yX0_isPuller cX0_isPuller 2 (some (.boolean))) 10 216 [aR (some j0), aI x1] L (some (aI r9)) L9 mc ms :=
  fun b1 b2 => ct_of (own := RX0) fw_ZX_ok (by decide +kernel) rfl (Nat.le_of_ble_eq_true rfl) (fun K hZ hK hF hini => w_X0_isPuller_0 hK ⟨b1, b2, hZ⟩ hF h)
def f_X0_callBy (j0 : Nat) (x1 : Int32) (x2 : Int32) (L : LH) : Rs Int32 :=
  fw_gR 1 L j0 2 fun r1 =>
  fw_nn r1 fun j2 =>
  fw_rq 107 L j2 x1 fun r3 =>
  fw_nn r3 fun j6 =>
  fw_is 3 L j6 <|
  fw_cl (f_X1_read j6 L) fun v5 L4 =>
  fw_gR 1 L4 j0 2 fun r7 =>
  fw_nn r7 fun j8 =>
  fw_rq 107 L4 j8 x1 fun r9 =>
  fw_nn r9 fun j11 =>
  fw_gR 3 L4 j11 5 fun r10 =>
  fw_nn r10 fun j12 =>
  fw_rd 100 L4 j12 x2 fun v13 =>
  some (v13, L4, 0, 0)
set_option maxHeartbeats 4000000 in
set_option maxRecDepth 100000 in
theorem w_X0_callBy_0 {K : Kx} {r9 : Int32} {L9 : LH} (hK : Ok K cX0_callBy 3 RX0 9 196) (hZ : fw_isZ K) (hF : Fin K (some (.int)) (some (aI r9)) L9) {j0 : Nat} {x1 : Int32} {x2 : Int32} {L : LH} {mc ms : Nat} (h : f_X0_callBy j0 x1 x2 L = some (r9, L9, mc, ms)) : AW K L mc ms 0 [(0, aR (some j0)), (1, aI x1), (2, aI x2)] [] := by
  unfold f_X0_callBy at h
  refine aw_aload_n hK 0 dX0_callBy_0 rfl rfl ?_
  refine aw_gR hK fw_c0 2 (by decide) rfl q228 (fun _ h9 => h9) dX0_callBy_1 h (fun r1 h => ?_)
  refine aw_iload_n hK 1 dX0_callBy_4 rfl rfl ?_
  obtain _ | j2 := r1
  · exact (fw_nn_no h).elim
  replace h := fw_nn_so h
  refine aw_aald hK 7 (by decide) rfl dX0_callBy_5 h (fun r3 h => ?_)
  obtain _ | j6 := r3
  · exact (fw_nn_no h).elim
  replace h := fw_nn_so h
  obtain ⟨hj, h⟩ := fw_is_h h
  refine aw_callQ_i hK (fun _ _ _ _ q => rq_U (n := 0) hK (fw_rcvW hK fw_c2 hj) (fw_czx hZ (ct_X1_read q)) (lw_U q718 q719 q720 q345 q95 q349) rfl (by decide +kernel) (by decide) rfl rfl (Nat.le_of_ble_eq_true rfl) dX0_callBy_6) (fw_mt (n := 1) rfl) h (fun v5 L4 _ _ h => ?_)
  refine aw_pop hK dX0_callBy_9 rfl ?_
  refine aw_aload_n hK 0 dX0_callBy_10 rfl rfl ?_
  refine aw_gR hK fw_c0 2 (by decide) rfl q228 (fun _ h9 => h9) dX0_callBy_11 h (fun r7 h => ?_)
  refine aw_iload_n hK 1 dX0_callBy_14 rfl rfl ?_
  obtain _ | j8 := r7
  · exact (fw_nn_no h).elim
  replace h := fw_nn_so h
  refine aw_aald hK 7 (by decide) rfl dX0_callBy_15 h (fun r9 h => ?_)
  obtain _ | j11 := r9
  · exact (fw_nn_no h).elim
  replace h := fw_nn_so h
  refine aw_gR hK fw_c2 5 (by decide) rfl q195 (fun _ h9 => h9) dX0_callBy_16 h (fun r10 h => ?_)
  refine aw_iload_n hK 2 dX0_callBy_19 rfl rfl ?_
  obtain _ | j12 := r10
  · exact (fw_nn_no h).elim
  replace h := fw_nn_so h
  refine aw_iald hK dX0_callBy_20 h (fun v13 h => ?_)
  exact aw_iret hK dX0_callBy_21 h hF
theorem ct_X0_callBy {j0 : Nat} {x1 : Int32} {x2 : Int32} {L : LH} {r9 : Int32} {L9 : LH} {mc ms : Nat} (h : f_X0_callBy j0 x1 x2 L = some (r9, L9, mc, ms)) : fw_Cx yX0_callBy (ws_ yX0_callBy cX0_callBy 3 (some (.int))) 9 196 [aR (some j0), aI x1, aI x2] L (some (aI r9)) L9 mc ms :=
  fun b1 b2 => ct_of (own := RX0) fw_ZX_ok (by decide +kernel) rfl (Nat.le_of_ble_eq_true rfl) (fun K hZ hK hF hini => w_X0_callBy_0 hK ⟨b1, b2, hZ⟩ hF h)
def f_X0_endOf_30 (j0 : Nat) (x3 : Int32) (L : LH) : Rs Int32 :=
  fw_gI 1 L j0 18 fun v1 =>
  if x3 = v1 then (
    fw_gI 1 L j0 19 fun v5 =>
    some (v5, L, 0, 0)
  ) else (
    fw_gI 1 L j0 19 fun v2 =>
    if x3 = v2 then (
      fw_gI 1 L j0 18 fun v3 =>
      if v3 = (-nI 1) then (
        some (x3, L, 0, 0)
      ) else (
        fw_gI 1 L j0 18 fun v4 =>
        some (v4, L, 0, 0)
      )
    ) else (
      some (x3, L, 0, 0)
    )
  )
def f_X0_endOf (j0 : Nat) (x1 : Int32) (L : LH) : Rs Int32 :=
  fw_gR 1 L j0 1 fun r1 =>
  fw_nn r1 fun j2 =>
  fw_rq 106 L j2 x1 fun r3 =>
  fw_nn r3 fun j6 =>
  fw_is 2 L j6 <|
  fw_cl (f_X2_many j6 L) fun v5 L4 =>
  fw_gI 1 L4 j0 17 fun v7 =>
  if ((((nI 8) * x1) + v5) - (nI 1)) = v7 then (
    f_X0_endOf_30 j0 (((((nI 8) * x1) + v5) - (nI 1)) + (-nI 1)) L4
  ) else (
    f_X0_endOf_30 j0 ((((nI 8) * x1) + v5) - (nI 1)) L4
  )
set_option maxHeartbeats 4000000 in
set_option maxRecDepth 100000 in
theorem w_X0_endOf_30 {K : Kx} {r9 : Int32} {L9 : LH} (hK : Ok K cX0_endOf 4 RX0 10 216) (hZ : fw_isZ K) (hF : Fin K (some (.int)) (some (aI r9)) L9) {j0 : Nat} {x3 : Int32} {L : LH} {mc ms : Nat} (h : f_X0_endOf_30 j0 x3 L = some (r9, L9, mc, ms)) : AW K L mc ms 30 [(0, aR (some j0)), (3, aI x3)] [] := by
  unfold f_X0_endOf_30 at h
  refine aw_iload_n hK 1 dX0_endOf_30 rfl rfl ?_
  refine aw_aload_n hK 0 dX0_endOf_31 rfl rfl ?_
  refine aw_gI hK fw_c0 18 (by decide) rfl q244 (fun _ h9 => h9) dX0_endOf_32 h (fun v1 h => ?_)
  refine aw_icmp_ne (tgt := 45) hK dX0_endOf_35 (by decide) h (fun h => ?_) (fun h => ?_)
  · refine aw_iload_n hK 1 dX0_endOf_45 rfl rfl ?_
    refine aw_aload_n hK 0 dX0_endOf_46 rfl rfl ?_
    refine aw_gI hK fw_c0 19 (by decide) rfl q245 (fun _ h9 => h9) dX0_endOf_47 h (fun v2 h => ?_)
    refine aw_icmp_ne (tgt := 68) hK dX0_endOf_50 (by decide) h (fun h => ?_) (fun h => ?_)
    · refine aw_iload_n hK 1 dX0_endOf_68 rfl rfl ?_
      exact aw_iret hK dX0_endOf_69 h hF
    · refine aw_aload_n hK 0 dX0_endOf_53 rfl rfl ?_
      refine aw_gI hK fw_c0 18 (by decide) rfl q244 (fun _ h9 => h9) dX0_endOf_54 h (fun v3 h => ?_)
      refine aw_iconst (v := (-nI 1)) hK dX0_endOf_57 rfl ?_
      refine aw_icmp_eq (tgt := 68) hK dX0_endOf_58 (by decide) h (fun h => ?_) (fun h => ?_)
      · refine aw_iload_n hK 1 dX0_endOf_68 rfl rfl ?_
        exact aw_iret hK dX0_endOf_69 h hF
      · refine aw_aload_n hK 0 dX0_endOf_61 rfl rfl ?_
        refine aw_gI hK fw_c0 18 (by decide) rfl q244 (fun _ h9 => h9) dX0_endOf_62 h (fun v4 h => ?_)
        refine aw_goto (tgt := 69) hK dX0_endOf_65 (by decide) ?_
        exact aw_iret hK dX0_endOf_69 h hF
  · refine aw_aload_n hK 0 dX0_endOf_38 rfl rfl ?_
    refine aw_gI hK fw_c0 19 (by decide) rfl q245 (fun _ h9 => h9) dX0_endOf_39 h (fun v5 h => ?_)
    refine aw_goto (tgt := 69) hK dX0_endOf_42 (by decide) ?_
    exact aw_iret hK dX0_endOf_69 h hF
set_option maxHeartbeats 4000000 in
set_option maxRecDepth 100000 in
theorem w_X0_endOf_0 {K : Kx} {r9 : Int32} {L9 : LH} (hK : Ok K cX0_endOf 4 RX0 10 216) (hZ : fw_isZ K) (hF : Fin K (some (.int)) (some (aI r9)) L9) {j0 : Nat} {x1 : Int32} {L : LH} {mc ms : Nat} (h : f_X0_endOf j0 x1 L = some (r9, L9, mc, ms)) : AW K L mc ms 0 [(0, aR (some j0)), (1, aI x1)] [] := by
  unfold f_X0_endOf at h
  refine aw_aload_n hK 0 dX0_endOf_0 rfl rfl ?_
  refine aw_gR hK fw_c0 1 (by decide) rfl q227 (fun _ h9 => h9) dX0_endOf_1 h (fun r1 h => ?_)
  refine aw_iload_n hK 1 dX0_endOf_4 rfl rfl ?_
  obtain _ | j2 := r1
  · exact (fw_nn_no h).elim
  replace h := fw_nn_so h
  refine aw_aald hK 6 (by decide) rfl dX0_endOf_5 h (fun r3 h => ?_)
  obtain _ | j6 := r3
  · exact (fw_nn_no h).elim
  replace h := fw_nn_so h
  obtain ⟨hj, h⟩ := fw_is_h h
  refine aw_callV_i (n := 0) hK fw_c1 hj (fun _ _ _ _ q => fw_czx hZ (ct_X2_many q)) (lw_V q656 q657 q658 q96 q659) (by decide +kernel) (by decide) rfl rfl (Nat.le_of_ble_eq_true rfl) dX0_endOf_6 h (fun v5 L4 _ _ h => ?_)
  refine aw_istore_n (lv' := [(2, aI v5), (0, aR (some j0)), (1, aI x1)]) hK dX0_endOf_9 rfl (by decide) rfl ?_
  refine aw_bipush (v := (nI 8)) hK dX0_endOf_10 rfl ?_
  refine aw_iload_n hK 2 dX0_endOf_12 rfl rfl ?_
  refine aw_imul hK dX0_endOf_13 ?_
  refine aw_iload_n hK 0 dX0_endOf_14 rfl rfl ?_
  refine aw_iadd hK dX0_endOf_15 ?_
  refine aw_iconst (v := (nI 1)) hK dX0_endOf_16 rfl ?_
  refine aw_isub hK dX0_endOf_17 ?_
  refine aw_istore_n (lv' := [(3, aI ((((nI 8) * x1) + v5) - (nI 1))), (2, aI v5), (0, aR (some j0)), (1, aI x1)]) hK dX0_endOf_18 rfl (by decide) rfl ?_
  refine aw_iload_n hK 0 dX0_endOf_19 rfl rfl ?_
  refine aw_aload_n hK 2 dX0_endOf_20 rfl rfl ?_
  refine aw_gI hK fw_c0 17 (by decide) rfl q243 (fun _ h9 => h9) dX0_endOf_21 h (fun v7 h => ?_)
  refine aw_icmp_ne (tgt := 30) hK dX0_endOf_24 (by decide) h (fun h => ?_) (fun h => ?_)
  · exact aw_sub [2, 0] rfl (w_X0_endOf_30 hK hZ hF h)
  · refine aw_iinc (v := (((((nI 8) * x1) + v5) - (nI 1)) + (-nI 1))) (lv' := [(3, aI (((((nI 8) * x1) + v5) - (nI 1)) + (-nI 1))), (2, aI v5), (0, aR (some j0)), (1, aI x1)]) hK 0 dX0_endOf_27 rfl rfl (by decide) rfl ?_
    exact aw_sub [2, 0] rfl (w_X0_endOf_30 hK hZ hF h)
theorem ct_X0_endOf {j0 : Nat} {x1 : Int32} {L : LH} {r9 : Int32} {L9 : LH} {mc ms : Nat} (h : f_X0_endOf j0 x1 L = some (r9, L9, mc, ms)) : fw_Cx yX0_endOf (ws_ yX0_endOf cX0_endOf 4 (some (.int))) 10 216 [aR (some j0), aI x1] L (some (aI r9)) L9 mc ms :=
  fun b1 b2 => ct_of (own := RX0) fw_ZX_ok (by decide +kernel) rfl (Nat.le_of_ble_eq_true rfl) (fun K hZ hK hF hini => w_X0_endOf_0 hK ⟨b1, b2, hZ⟩ hF h)
def f_X0_tugs_34 (rec10 : Nat → Int32 → Int32 → Int32 → LH → Rs Unit) : Nat → Nat → Int32 → Int32 → Int32 → Int32 → Int32 → LH → Rs Unit
  | 0, _, _, _, _, _, _, _ => none
  | n + 1, j0, x1, x2, x3, x4, x5, L =>
    fw_gR 1 L j0 1 fun r1 =>
    fw_nn r1 fun j2 =>
    fw_rq 106 L j2 x3 fun r3 =>
    fw_nn r3 fun j6 =>
    fw_is 2 L j6 <|
    fw_cl (f_X2_many j6 L) fun v5 L4 =>
    if v5 ≤ x5 then (
      rec10 j0 x1 x2 (x3 + (nI 1)) L4
    ) else (
      fw_gR 1 L4 j0 13 fun r7 =>
      fw_nn r7 fun j8 =>
      fw_rq 110 L4 j8 x1 fun r9 =>
      fw_is 1 L4 j0 <|
      fw_cl (f_X0_force j0 x1 (((nI 8) * x3) + x5) x4 L4) fun v11 L10 =>
      fw_nn r9 fun j12 =>
      fw_wr 100 L10 j12 (((nI 8) * x3) + x5) v11 fun L13 =>
      fw_gR 1 L13 j0 12 fun r14 =>
      fw_nn r14 fun j15 =>
      fw_rq 110 L13 j15 x1 fun r16 =>
      fw_nn r16 fun j17 =>
      fw_rd 100 L13 j17 ((nI 1) + x3) fun v18 =>
      fw_gR 1 L13 j0 13 fun r19 =>
      fw_nn r19 fun j20 =>
      fw_rq 110 L13 j20 x1 fun r21 =>
      fw_nn r21 fun j22 =>
      fw_rd 100 L13 j22 (((nI 8) * x3) + x5) fun v23 =>
      fw_wr 100 L13 j17 ((nI 1) + x3) (v18 + v23) fun L24 =>
      f_X0_tugs_34 rec10 n j0 x1 x2 x3 x4 (x5 + (nI 1)) L24
    )
def f_X0_tugs_29 (rec10 : Nat → Int32 → Int32 → Int32 → LH → Rs Unit) (j0 : Nat) (x1 : Int32) (x2 : Int32) (x3 : Int32) (sx0 : Int32) (L : LH) : Rs Unit :=
  f_X0_tugs_34 rec10 fw_fuel j0 x1 x2 x3 sx0 (nI 0) L
def f_X0_tugs_174 (j0 : Nat) (x1 : Int32) (sx0 : Int32) (sx1 : Int32) (sr2 : Option Nat) (L : LH) : Rs Unit :=
  fw_nn sr2 fun j2 =>
  fw_pI 1 L j2 9 (sx1 + sx0) fun L1 =>
  fw_is 1 L1 j0 <|
  fw_cl (f_X0_isWon j0 L1) fun v4 L3 =>
  if v4 = 0 then (
    some ((), L3, 0, 0)
  ) else (
    fw_pI 1 L3 j0 8 x1 fun L5 =>
    some ((), L5, 0, 0)
  )
def f_X0_tugs_156 (j0 : Nat) (x1 : Int32) (x3 : Int32) (sx0 : Int32) (sx1 : Int32) (sr2 : Option Nat) (L : LH) : Rs Unit :=
  fw_nn sr2 fun j2 =>
  fw_pI 1 L j2 6 (sx1 + sx0) fun L1 =>
  fw_gI 1 L1 j0 9 fun v3 =>
  if x3 = 0 then (
    f_X0_tugs_174 j0 x1 (nI 1) v3 (some j0) L1
  ) else (
    f_X0_tugs_174 j0 x1 (nI 0) v3 (some j0) L1
  )
def f_X0_tugs_10 : Nat → Nat → Int32 → Int32 → Int32 → LH → Rs Unit
  | 0, _, _, _, _, _ => none
  | n + 1, j0, x1, x2, x3, L =>
    if (nI 2) ≤ x3 then (
      fw_gR 1 L j0 12 fun r1 =>
      fw_nn r1 fun j2 =>
      fw_rq 110 L j2 x1 fun r3 =>
      fw_nn r3 fun j4 =>
      fw_rd 100 L j4 (nI 1) fun v5 =>
      fw_gR 1 L j0 12 fun r6 =>
      fw_nn r6 fun j7 =>
      fw_rq 110 L j7 x1 fun r8 =>
      fw_nn r8 fun j9 =>
      fw_rd 100 L j9 (nI 2) fun v10 =>
      fw_gI 1 L j0 6 fun v11 =>
      if (v5 - v10) ≤ 0 then (
        f_X0_tugs_156 j0 x1 (v5 - v10) (-(fw_min ((fw_abs (v5 - v10)) / (nI 3)) (nI 3))) v11 (some j0) L
      ) else (
        f_X0_tugs_156 j0 x1 (v5 - v10) (fw_min ((fw_abs (v5 - v10)) / (nI 3)) (nI 3)) v11 (some j0) L
      )
    ) else (
      if x2 = 0 then (
        fw_is 1 L j0 <|
        fw_cl (f_X0_callBy j0 x3 x1 L) fun v13 L12 =>
        f_X0_tugs_29 (f_X0_tugs_10 n) j0 x1 x2 x3 v13 L12
      ) else (
        f_X0_tugs_29 (f_X0_tugs_10 n) j0 x1 x2 x3 (nI 0) L
      )
    )
def f_X0_tugs (j0 : Nat) (x1 : Int32) (L : LH) : Rs Unit :=
  fw_is 1 L j0 <|
  fw_cl (f_X0_isTold j0 (nI 2) x1 (nI 0) L) fun v2 L1 =>
  f_X0_tugs_10 fw_fuel j0 x1 v2 (nI 0) L1
set_option maxHeartbeats 4000000 in
set_option maxRecDepth 100000 in
theorem w_X0_tugs_34 {K : Kx} {r9 : Unit} {L9 : LH} (hK : Ok K cX0_tugs 7 RX0 10 218) (hZ : fw_isZ K) (hF : Fin K none none L9) {rec10 : Nat → Int32 → Int32 → Int32 → LH → Rs Unit} (hrec10 : ∀ {j0 : Nat} {x1 : Int32} {x2 : Int32} {x3 : Int32} {L : LH} {mc ms : Nat}, rec10 j0 x1 x2 x3 L = some (r9, L9, mc, ms) → AW K L mc ms 10 [(0, aR (some j0)), (1, aI x1), (2, aI x2), (3, aI x3)] []) : ∀ {n : Nat} {j0 : Nat} {x1 : Int32} {x2 : Int32} {x3 : Int32} {x4 : Int32} {x5 : Int32} {L : LH} {mc ms : Nat}, f_X0_tugs_34 rec10 n j0 x1 x2 x3 x4 x5 L = some (r9, L9, mc, ms) → AW K L mc ms 34 [(0, aR (some j0)), (1, aI x1), (2, aI x2), (3, aI x3), (4, aI x4), (5, aI x5)] [] := by
  intro n
  induction n with
  | zero =>
    intro j0 x1 x2 x3 x4 x5 L mc ms h
    have h : (none : Rs Unit) = some (r9, L9, mc, ms) := h
    cases h
  | succ n ih =>
    intro j0 x1 x2 x3 x4 x5 L mc ms h
    unfold f_X0_tugs_34 at h
    refine aw_iload hK 5 dX0_tugs_34 rfl ?_
    refine aw_aload_n hK 0 dX0_tugs_36 rfl rfl ?_
    refine aw_gR hK fw_c0 1 (by decide) rfl q227 (fun _ h9 => h9) dX0_tugs_37 h (fun r1 h => ?_)
    refine aw_iload_n hK 3 dX0_tugs_40 rfl rfl ?_
    obtain _ | j2 := r1
    · exact (fw_nn_no h).elim
    replace h := fw_nn_so h
    refine aw_aald hK 6 (by decide) rfl dX0_tugs_41 h (fun r3 h => ?_)
    obtain _ | j6 := r3
    · exact (fw_nn_no h).elim
    replace h := fw_nn_so h
    obtain ⟨hj, h⟩ := fw_is_h h
    refine aw_callV_i (n := 0) hK fw_c1 hj (fun _ _ _ _ q => fw_czx hZ (ct_X2_many q)) (lw_V q656 q657 q658 q96 q659) (by decide +kernel) (by decide) rfl rfl (Nat.le_of_ble_eq_true rfl) dX0_tugs_42 h (fun v5 L4 _ _ h => ?_)
    refine aw_icmp_ge (tgt := 103) hK dX0_tugs_45 (by decide) h (fun h => ?_) (fun h => ?_)
    · refine aw_iinc (v := (x3 + (nI 1))) (lv' := [(3, aI (x3 + (nI 1))), (0, aR (some j0)), (1, aI x1), (2, aI x2), (4, aI x4), (5, aI x5)]) hK 3 dX0_tugs_103 rfl rfl (by decide) rfl ?_
      refine aw_goto (tgt := 10) hK dX0_tugs_106 (by decide) ?_
      exact aw_sub [1, 2, 3, 0] rfl (hrec10 h)
    · refine aw_bipush (v := (nI 8)) hK dX0_tugs_48 rfl ?_
      refine aw_iload_n hK 3 dX0_tugs_50 rfl rfl ?_
      refine aw_imul hK dX0_tugs_51 ?_
      refine aw_iload hK 5 dX0_tugs_52 rfl ?_
      refine aw_iadd hK dX0_tugs_54 ?_
      refine aw_istore (lv' := [(6, aI (((nI 8) * x3) + x5)), (0, aR (some j0)), (1, aI x1), (2, aI x2), (3, aI x3), (4, aI x4), (5, aI x5)]) hK dX0_tugs_55 (by decide) rfl ?_
      refine aw_aload_n hK 1 dX0_tugs_57 rfl rfl ?_
      refine aw_gR hK fw_c0 13 (by decide) rfl q239 (fun _ h9 => h9) dX0_tugs_58 h (fun r7 h => ?_)
      refine aw_iload_n hK 2 dX0_tugs_61 rfl rfl ?_
      obtain _ | j8 := r7
      · exact (fw_nn_no h).elim
      replace h := fw_nn_so h
      refine aw_aald hK 10 (by decide) rfl dX0_tugs_62 h (fun r9 h => ?_)
      refine aw_iload hK 0 dX0_tugs_63 rfl ?_
      refine aw_aload_n hK 1 dX0_tugs_65 rfl rfl ?_
      refine aw_iload_n hK 2 dX0_tugs_66 rfl rfl ?_
      refine aw_iload hK 0 dX0_tugs_67 rfl ?_
      refine aw_iload hK 5 dX0_tugs_69 rfl ?_
      obtain ⟨hj, h⟩ := fw_is_h h
      refine aw_callV_i (n := 3) hK fw_c0 hj (fun _ _ _ _ q => fw_czx hZ (ct_X0_force q)) (lw_V q815 q817 qs16 q94 q818) (by decide +kernel) (by decide) rfl rfl (Nat.le_of_ble_eq_true rfl) dX0_tugs_71 h (fun v11 L10 _ _ h => ?_)
      obtain _ | j12 := r9
      · exact (fw_nn_no h).elim
      replace h := fw_nn_so h
      refine aw_iast hK dX0_tugs_74 h (fun L13 h => ?_)
      refine aw_aload_n hK 1 dX0_tugs_75 rfl rfl ?_
      refine aw_gR hK fw_c0 12 (by decide) rfl q238 (fun _ h9 => h9) dX0_tugs_76 h (fun r14 h => ?_)
      refine aw_iload_n hK 2 dX0_tugs_79 rfl rfl ?_
      obtain _ | j15 := r14
      · exact (fw_nn_no h).elim
      replace h := fw_nn_so h
      refine aw_aald hK 10 (by decide) rfl dX0_tugs_80 h (fun r16 h => ?_)
      refine aw_iconst (v := (nI 1)) hK dX0_tugs_81 rfl ?_
      refine aw_iload_n hK 4 dX0_tugs_82 rfl rfl ?_
      refine aw_iadd hK dX0_tugs_83 ?_
      refine aw_dup2 hK dX0_tugs_84 rfl rfl ?_
      obtain _ | j17 := r16
      · exact (fw_nn_no h).elim
      replace h := fw_nn_so h
      refine aw_iald hK dX0_tugs_85 h (fun v18 h => ?_)
      refine aw_aload_n hK 1 dX0_tugs_86 rfl rfl ?_
      refine aw_gR hK fw_c0 13 (by decide) rfl q239 (fun _ h9 => h9) dX0_tugs_87 h (fun r19 h => ?_)
      refine aw_iload_n hK 2 dX0_tugs_90 rfl rfl ?_
      obtain _ | j20 := r19
      · exact (fw_nn_no h).elim
      replace h := fw_nn_so h
      refine aw_aald hK 10 (by decide) rfl dX0_tugs_91 h (fun r21 h => ?_)
      refine aw_iload hK 0 dX0_tugs_92 rfl ?_
      obtain _ | j22 := r21
      · exact (fw_nn_no h).elim
      replace h := fw_nn_so h
      refine aw_iald hK dX0_tugs_94 h (fun v23 h => ?_)
      refine aw_iadd hK dX0_tugs_95 ?_
      refine aw_iast hK dX0_tugs_96 h (fun L24 h => ?_)
      refine aw_iinc (v := (x5 + (nI 1))) (lv' := [(5, aI (x5 + (nI 1))), (6, aI (((nI 8) * x3) + x5)), (0, aR (some j0)), (1, aI x1), (2, aI x2), (3, aI x3), (4, aI x4)]) hK 6 dX0_tugs_97 rfl rfl (by decide) rfl ?_
      refine aw_goto (tgt := 34) hK dX0_tugs_100 (by decide) ?_
      exact aw_sub [2, 3, 4, 5, 6, 0] rfl (ih h)
set_option maxHeartbeats 4000000 in
set_option maxRecDepth 100000 in
theorem w_X0_tugs_29 {K : Kx} {r9 : Unit} {L9 : LH} (hK : Ok K cX0_tugs 7 RX0 10 218) (hZ : fw_isZ K) (hF : Fin K none none L9) {rec10 : Nat → Int32 → Int32 → Int32 → LH → Rs Unit} (hrec10 : ∀ {j0 : Nat} {x1 : Int32} {x2 : Int32} {x3 : Int32} {L : LH} {mc ms : Nat}, rec10 j0 x1 x2 x3 L = some (r9, L9, mc, ms) → AW K L mc ms 10 [(0, aR (some j0)), (1, aI x1), (2, aI x2), (3, aI x3)] []) {j0 : Nat} {x1 : Int32} {x2 : Int32} {x3 : Int32} {sx0 : Int32} {L : LH} {mc ms : Nat} (h : f_X0_tugs_29 rec10 j0 x1 x2 x3 sx0 L = some (r9, L9, mc, ms)) : AW K L mc ms 29 [(0, aR (some j0)), (1, aI x1), (2, aI x2), (3, aI x3)] [aI sx0] := by
  unfold f_X0_tugs_29 at h
  refine aw_istore (lv' := [(4, aI sx0), (0, aR (some j0)), (1, aI x1), (2, aI x2), (3, aI x3)]) hK dX0_tugs_29 (by decide) rfl ?_
  refine aw_iconst (v := (nI 0)) hK dX0_tugs_31 rfl ?_
  refine aw_istore (lv' := [(5, aI (nI 0)), (4, aI sx0), (0, aR (some j0)), (1, aI x1), (2, aI x2), (3, aI x3)]) hK dX0_tugs_32 (by decide) rfl ?_
  exact aw_sub [2, 3, 4, 5, 1, 0] rfl (w_X0_tugs_34 hK hZ hF (fun h => hrec10 h) h)
set_option maxHeartbeats 4000000 in
set_option maxRecDepth 100000 in
theorem w_X0_tugs_174 {K : Kx} {r9 : Unit} {L9 : LH} (hK : Ok K cX0_tugs 7 RX0 10 218) (hZ : fw_isZ K) (hF : Fin K none none L9) {j0 : Nat} {x1 : Int32} {sx0 : Int32} {sx1 : Int32} {sr2 : Option Nat} {L : LH} {mc ms : Nat} (h : f_X0_tugs_174 j0 x1 sx0 sx1 sr2 L = some (r9, L9, mc, ms)) : AW K L mc ms 174 [(0, aR (some j0)), (1, aI x1)] [aI sx0, aI sx1, aR sr2] := by
  unfold f_X0_tugs_174 at h
  refine aw_iadd hK dX0_tugs_174 ?_
  obtain _ | j2 := sr2
  · exact (fw_nn_no h).elim
  replace h := fw_nn_so h
  refine aw_pI hK fw_c0 9 (by decide) rfl q235 (fun _ h9 => h9) rfl rfl rfl dX0_tugs_175 h (fun L1 h => ?_)
  refine aw_aload_n hK 0 dX0_tugs_178 rfl rfl ?_
  obtain ⟨hj, h⟩ := fw_is_h h
  refine aw_callV_i (n := 0) hK fw_c0 hj (fun _ _ _ _ q => fw_czx hZ (ct_X0_isWon q)) (lw_V q803 q805 qs13 q94 q806) (by decide +kernel) (by decide) rfl rfl (Nat.le_of_ble_eq_true rfl) dX0_tugs_179 h (fun v4 L3 _ _ h => ?_)
  refine aw_if_eq (tgt := 190) hK dX0_tugs_182 (by decide) h (fun h => ?_) (fun h => ?_)
  · exact aw_vret hK dX0_tugs_190 h hF
  · refine aw_aload_n hK 0 dX0_tugs_185 rfl rfl ?_
    refine aw_iload_n hK 1 dX0_tugs_186 rfl rfl ?_
    refine aw_pI hK fw_c0 8 (by decide) rfl q234 (fun _ h9 => h9) rfl rfl rfl dX0_tugs_187 h (fun L5 h => ?_)
    exact aw_vret hK dX0_tugs_190 h hF
set_option maxHeartbeats 4000000 in
set_option maxRecDepth 100000 in
theorem w_X0_tugs_156 {K : Kx} {r9 : Unit} {L9 : LH} (hK : Ok K cX0_tugs 7 RX0 10 218) (hZ : fw_isZ K) (hF : Fin K none none L9) {j0 : Nat} {x1 : Int32} {x3 : Int32} {sx0 : Int32} {sx1 : Int32} {sr2 : Option Nat} {L : LH} {mc ms : Nat} (h : f_X0_tugs_156 j0 x1 x3 sx0 sx1 sr2 L = some (r9, L9, mc, ms)) : AW K L mc ms 156 [(0, aR (some j0)), (1, aI x1), (3, aI x3)] [aI sx0, aI sx1, aR sr2] := by
  unfold f_X0_tugs_156 at h
  refine aw_iadd hK dX0_tugs_156 ?_
  obtain _ | j2 := sr2
  · exact (fw_nn_no h).elim
  replace h := fw_nn_so h
  refine aw_pI hK fw_c0 6 (by decide) rfl q232 (fun _ h9 => h9) rfl rfl rfl dX0_tugs_157 h (fun L1 h => ?_)
  refine aw_aload_n hK 0 dX0_tugs_160 rfl rfl ?_
  refine aw_dup hK dX0_tugs_161 rfl ?_
  refine aw_gI hK fw_c0 9 (by decide) rfl q235 (fun _ h9 => h9) dX0_tugs_162 h (fun v3 h => ?_)
  refine aw_iload_n hK 2 dX0_tugs_165 rfl rfl ?_
  refine aw_if_ne (tgt := 173) hK dX0_tugs_166 (by decide) h (fun h => ?_) (fun h => ?_)
  · refine aw_iconst (v := (nI 0)) hK dX0_tugs_173 rfl ?_
    exact aw_sub [0, 1] rfl (w_X0_tugs_174 hK hZ hF h)
  · refine aw_iconst (v := (nI 1)) hK dX0_tugs_169 rfl ?_
    refine aw_goto (tgt := 174) hK dX0_tugs_170 (by decide) ?_
    exact aw_sub [0, 1] rfl (w_X0_tugs_174 hK hZ hF h)
set_option maxHeartbeats 4000000 in
set_option maxRecDepth 100000 in
theorem w_X0_tugs_10 {K : Kx} {r9 : Unit} {L9 : LH} (hK : Ok K cX0_tugs 7 RX0 10 218) (hZ : fw_isZ K) (hF : Fin K none none L9) : ∀ {n : Nat} {j0 : Nat} {x1 : Int32} {x2 : Int32} {x3 : Int32} {L : LH} {mc ms : Nat}, f_X0_tugs_10 n j0 x1 x2 x3 L = some (r9, L9, mc, ms) → AW K L mc ms 10 [(0, aR (some j0)), (1, aI x1), (2, aI x2), (3, aI x3)] [] := by
  intro n
  induction n with
  | zero =>
    intro j0 x1 x2 x3 L mc ms h
    have h : (none : Rs Unit) = some (r9, L9, mc, ms) := h
    cases h
  | succ n ih =>
    intro j0 x1 x2 x3 L mc ms h
    unfold f_X0_tugs_10 at h
    refine aw_iload_n hK 3 dX0_tugs_10 rfl rfl ?_
    refine aw_iconst (v := (nI 2)) hK dX0_tugs_11 rfl ?_
    refine aw_icmp_ge (tgt := 109) hK dX0_tugs_12 (by decide) h (fun h => ?_) (fun h => ?_)
    · refine aw_aload_n hK 0 dX0_tugs_109 rfl rfl ?_
      refine aw_gR hK fw_c0 12 (by decide) rfl q238 (fun _ h9 => h9) dX0_tugs_110 h (fun r1 h => ?_)
      refine aw_iload_n hK 1 dX0_tugs_113 rfl rfl ?_
      obtain _ | j2 := r1
      · exact (fw_nn_no h).elim
      replace h := fw_nn_so h
      refine aw_aald hK 10 (by decide) rfl dX0_tugs_114 h (fun r3 h => ?_)
      refine aw_iconst (v := (nI 1)) hK dX0_tugs_115 rfl ?_
      obtain _ | j4 := r3
      · exact (fw_nn_no h).elim
      replace h := fw_nn_so h
      refine aw_iald hK dX0_tugs_116 h (fun v5 h => ?_)
      refine aw_aload_n hK 0 dX0_tugs_117 rfl rfl ?_
      refine aw_gR hK fw_c0 12 (by decide) rfl q238 (fun _ h9 => h9) dX0_tugs_118 h (fun r6 h => ?_)
      refine aw_iload_n hK 1 dX0_tugs_121 rfl rfl ?_
      obtain _ | j7 := r6
      · exact (fw_nn_no h).elim
      replace h := fw_nn_so h
      refine aw_aald hK 10 (by decide) rfl dX0_tugs_122 h (fun r8 h => ?_)
      refine aw_iconst (v := (nI 2)) hK dX0_tugs_123 rfl ?_
      obtain _ | j9 := r8
      · exact (fw_nn_no h).elim
      replace h := fw_nn_so h
      refine aw_iald hK dX0_tugs_124 h (fun v10 h => ?_)
      refine aw_isub hK dX0_tugs_125 ?_
      refine aw_istore_n (lv' := [(3, aI (v5 - v10)), (0, aR (some j0)), (1, aI x1), (2, aI x2)]) hK dX0_tugs_126 rfl (by decide) rfl ?_
      refine aw_iload_n hK 0 dX0_tugs_127 rfl rfl ?_
      refine aw_abs hK q870 q871 q109 q872 dX0_tugs_128 ⟨by decide, Nat.le_of_ble_eq_true rfl⟩ ?_
      refine aw_iconst (v := (nI 3)) hK dX0_tugs_131 rfl ?_
      refine aw_idiv hK dX0_tugs_132 (by decide) ?_
      refine aw_iconst (v := (nI 3)) hK dX0_tugs_133 rfl ?_
      refine aw_min hK q802 q498 q109 q499 dX0_tugs_134 ⟨by decide, Nat.le_of_ble_eq_true rfl⟩ ?_
      refine aw_istore (lv' := [(4, aI (fw_min ((fw_abs (v5 - v10)) / (nI 3)) (nI 3))), (3, aI (v5 - v10)), (0, aR (some j0)), (1, aI x1), (2, aI x2)]) hK dX0_tugs_137 (by decide) rfl ?_
      refine aw_aload_n hK 2 dX0_tugs_139 rfl rfl ?_
      refine aw_dup hK dX0_tugs_140 rfl ?_
      refine aw_gI hK fw_c0 6 (by decide) rfl q232 (fun _ h9 => h9) dX0_tugs_141 h (fun v11 h => ?_)
      refine aw_iload_n hK 1 dX0_tugs_144 rfl rfl ?_
      refine aw_if_le (tgt := 153) hK dX0_tugs_145 (by decide) h (fun h => ?_) (fun h => ?_)
      · refine aw_iload hK 0 dX0_tugs_153 rfl ?_
        refine aw_ineg hK dX0_tugs_155 ?_
        exact aw_sub [2, 3, 1] rfl (w_X0_tugs_156 hK hZ hF h)
      · refine aw_iload hK 0 dX0_tugs_148 rfl ?_
        refine aw_goto (tgt := 156) hK dX0_tugs_150 (by decide) ?_
        exact aw_sub [2, 3, 1] rfl (w_X0_tugs_156 hK hZ hF h)
    · refine aw_iload_n hK 2 dX0_tugs_15 rfl rfl ?_
      refine aw_if_eq (tgt := 23) hK dX0_tugs_16 (by decide) h (fun h => ?_) (fun h => ?_)
      · refine aw_aload_n hK 0 dX0_tugs_23 rfl rfl ?_
        refine aw_iload_n hK 3 dX0_tugs_24 rfl rfl ?_
        refine aw_iload_n hK 1 dX0_tugs_25 rfl rfl ?_
        obtain ⟨hj, h⟩ := fw_is_h h
        refine aw_callV_i (n := 2) hK fw_c0 hj (fun _ _ _ _ q => fw_czx hZ (ct_X0_callBy q)) (lw_V q714 q716 qs6 q94 q717) (by decide +kernel) (by decide) rfl rfl (Nat.le_of_ble_eq_true rfl) dX0_tugs_26 h (fun v13 L12 _ _ h => ?_)
        exact w_X0_tugs_29 hK hZ hF (fun h => ih h) h
      · refine aw_iconst (v := (nI 0)) hK dX0_tugs_19 rfl ?_
        refine aw_goto (tgt := 29) hK dX0_tugs_20 (by decide) ?_
        exact w_X0_tugs_29 hK hZ hF (fun h => ih h) h
set_option maxHeartbeats 4000000 in
set_option maxRecDepth 100000 in
theorem w_X0_tugs_0 {K : Kx} {r9 : Unit} {L9 : LH} (hK : Ok K cX0_tugs 7 RX0 10 218) (hZ : fw_isZ K) (hF : Fin K none none L9) {j0 : Nat} {x1 : Int32} {L : LH} {mc ms : Nat} (h : f_X0_tugs j0 x1 L = some (r9, L9, mc, ms)) : AW K L mc ms 0 [(0, aR (some j0)), (1, aI x1)] [] := by
  unfold f_X0_tugs at h
  refine aw_aload_n hK 0 dX0_tugs_0 rfl rfl ?_
  refine aw_iconst (v := (nI 2)) hK dX0_tugs_1 rfl ?_
  refine aw_iload_n hK 1 dX0_tugs_2 rfl rfl ?_
  refine aw_iconst (v := (nI 0)) hK dX0_tugs_3 rfl ?_
  obtain ⟨hj, h⟩ := fw_is_h h
  refine aw_callV_i (n := 3) hK fw_c0 hj (fun _ _ _ _ q => fw_czx hZ (ct_X0_isTold q)) (lw_V q811 q813 qs15 q94 q814) (by decide +kernel) (by decide) rfl rfl (Nat.le_of_ble_eq_true rfl) dX0_tugs_4 h (fun v2 L1 _ _ h => ?_)
  refine aw_istore_n (lv' := [(2, aI v2), (0, aR (some j0)), (1, aI x1)]) hK dX0_tugs_7 rfl (by decide) rfl ?_
  refine aw_iconst (v := (nI 0)) hK dX0_tugs_8 rfl ?_
  refine aw_istore_n (lv' := [(3, aI (nI 0)), (2, aI v2), (0, aR (some j0)), (1, aI x1)]) hK dX0_tugs_9 rfl (by decide) rfl ?_
  exact aw_sub [2, 3, 1, 0] rfl (w_X0_tugs_10 hK hZ hF h)
theorem ct_X0_tugs {j0 : Nat} {x1 : Int32} {L : LH} {r9 : Unit} {L9 : LH} {mc ms : Nat} (h : f_X0_tugs j0 x1 L = some (r9, L9, mc, ms)) : fw_Cx yX0_tugs (ws_ yX0_tugs cX0_tugs 7 none) 10 218 [aR (some j0), aI x1] L none L9 mc ms :=
  fun b1 b2 => ct_of (own := RX0) fw_ZX_ok (by decide +kernel) rfl (Nat.le_of_ble_eq_true rfl) (fun K hZ hK hF hini => w_X0_tugs_0 hK ⟨b1, b2, hZ⟩ hF h)
def f_X0_spentNow_35 (rec4 : Nat → Int32 → Int32 → LH → Rs Int32) (j0 : Nat) (x2 : Int32) (sx0 : Int32) (sx1 : Int32) (L : LH) : Rs Int32 :=
  rec4 j0 (sx1 ||| sx0) (x2 + (nI 1)) L
def f_X0_spentNow_34 (rec4 : Nat → Int32 → Int32 → LH → Rs Int32) (j0 : Nat) (x2 : Int32) (sx0 : Int32) (L : LH) : Rs Int32 :=
  f_X0_spentNow_35 rec4 j0 x2 (nI 0) sx0 L
def f_X0_spentNow_4 : Nat → Nat → Int32 → Int32 → LH → Rs Int32
  | 0, _, _, _, _ => none
  | n + 1, j0, x1, x2, L =>
    if (nI 16) ≤ x2 then (
      some (x1, L, 0, 0)
    ) else (
      fw_is 1 L j0 <|
      fw_cl (f_X0_isPuller j0 x2 L) fun v2 L1 =>
      if v2 = 0 then (
        f_X0_spentNow_34 (f_X0_spentNow_4 n) j0 x2 x1 L1
      ) else (
        fw_gR 1 L1 j0 10 fun r3 =>
        fw_nn r3 fun j4 =>
        fw_rd 100 L1 j4 x2 fun v5 =>
        if v5 = 0 then (
          f_X0_spentNow_35 (f_X0_spentNow_4 n) j0 x2 ((nI 1) <<< (x2 &&& 31)) x1 L1
        ) else (
          f_X0_spentNow_34 (f_X0_spentNow_4 n) j0 x2 x1 L1
        )
      )
    )
def f_X0_spentNow (j0 : Nat) (L : LH) : Rs Int32 :=
  f_X0_spentNow_4 fw_fuel j0 (nI 0) (nI 0) L
set_option maxHeartbeats 4000000 in
set_option maxRecDepth 100000 in
theorem w_X0_spentNow_35 {K : Kx} {r9 : Int32} {L9 : LH} (hK : Ok K cX0_spentNow 3 RX0 11 237) (hZ : fw_isZ K) (hF : Fin K (some (.int)) (some (aI r9)) L9) {rec4 : Nat → Int32 → Int32 → LH → Rs Int32} (hrec4 : ∀ {j0 : Nat} {x1 : Int32} {x2 : Int32} {L : LH} {mc ms : Nat}, rec4 j0 x1 x2 L = some (r9, L9, mc, ms) → AW K L mc ms 4 [(0, aR (some j0)), (1, aI x1), (2, aI x2)] []) {j0 : Nat} {x2 : Int32} {sx0 : Int32} {sx1 : Int32} {L : LH} {mc ms : Nat} (h : f_X0_spentNow_35 rec4 j0 x2 sx0 sx1 L = some (r9, L9, mc, ms)) : AW K L mc ms 35 [(0, aR (some j0)), (2, aI x2)] [aI sx0, aI sx1] := by
  unfold f_X0_spentNow_35 at h
  refine aw_ior hK dX0_spentNow_35 ?_
  refine aw_istore_n (lv' := [(1, aI (sx1 ||| sx0)), (0, aR (some j0)), (2, aI x2)]) hK dX0_spentNow_36 rfl (by decide) rfl ?_
  refine aw_iinc (v := (x2 + (nI 1))) (lv' := [(2, aI (x2 + (nI 1))), (1, aI (sx1 ||| sx0)), (0, aR (some j0))]) hK 2 dX0_spentNow_37 rfl rfl (by decide) rfl ?_
  refine aw_goto (tgt := 4) hK dX0_spentNow_40 (by decide) ?_
  exact aw_sub [2, 1, 0] rfl (hrec4 h)
set_option maxHeartbeats 4000000 in
set_option maxRecDepth 100000 in
theorem w_X0_spentNow_34 {K : Kx} {r9 : Int32} {L9 : LH} (hK : Ok K cX0_spentNow 3 RX0 11 237) (hZ : fw_isZ K) (hF : Fin K (some (.int)) (some (aI r9)) L9) {rec4 : Nat → Int32 → Int32 → LH → Rs Int32} (hrec4 : ∀ {j0 : Nat} {x1 : Int32} {x2 : Int32} {L : LH} {mc ms : Nat}, rec4 j0 x1 x2 L = some (r9, L9, mc, ms) → AW K L mc ms 4 [(0, aR (some j0)), (1, aI x1), (2, aI x2)] []) {j0 : Nat} {x2 : Int32} {sx0 : Int32} {L : LH} {mc ms : Nat} (h : f_X0_spentNow_34 rec4 j0 x2 sx0 L = some (r9, L9, mc, ms)) : AW K L mc ms 34 [(0, aR (some j0)), (2, aI x2)] [aI sx0] := by
  unfold f_X0_spentNow_34 at h
  refine aw_iconst (v := (nI 0)) hK dX0_spentNow_34 rfl ?_
  exact w_X0_spentNow_35 hK hZ hF (fun h => hrec4 h) h
set_option maxHeartbeats 4000000 in
set_option maxRecDepth 100000 in
theorem w_X0_spentNow_4 {K : Kx} {r9 : Int32} {L9 : LH} (hK : Ok K cX0_spentNow 3 RX0 11 237) (hZ : fw_isZ K) (hF : Fin K (some (.int)) (some (aI r9)) L9) : ∀ {n : Nat} {j0 : Nat} {x1 : Int32} {x2 : Int32} {L : LH} {mc ms : Nat}, f_X0_spentNow_4 n j0 x1 x2 L = some (r9, L9, mc, ms) → AW K L mc ms 4 [(0, aR (some j0)), (1, aI x1), (2, aI x2)] [] := by
  intro n
  induction n with
  | zero =>
    intro j0 x1 x2 L mc ms h
    have h : (none : Rs Int32) = some (r9, L9, mc, ms) := h
    cases h
  | succ n ih =>
    intro j0 x1 x2 L mc ms h
    unfold f_X0_spentNow_4 at h
    refine aw_iload_n hK 2 dX0_spentNow_4 rfl rfl ?_
    refine aw_bipush (v := (nI 16)) hK dX0_spentNow_5 rfl ?_
    refine aw_icmp_ge (tgt := 43) hK dX0_spentNow_7 (by decide) h (fun h => ?_) (fun h => ?_)
    · refine aw_iload_n hK 1 dX0_spentNow_43 rfl rfl ?_
      exact aw_iret hK dX0_spentNow_44 h hF
    · refine aw_iload_n hK 1 dX0_spentNow_10 rfl rfl ?_
      refine aw_aload_n hK 0 dX0_spentNow_11 rfl rfl ?_
      refine aw_iload_n hK 2 dX0_spentNow_12 rfl rfl ?_
      obtain ⟨hj, h⟩ := fw_is_h h
      refine aw_callV_i (n := 1) hK fw_c0 hj (fun _ _ _ _ q => fw_czx hZ (ct_X0_isPuller q)) (lw_V q651 q653 qs4 q94 q654) (by decide +kernel) (by decide) rfl rfl (Nat.le_of_ble_eq_true rfl) dX0_spentNow_13 h (fun v2 L1 _ _ h => ?_)
      refine aw_if_eq (tgt := 34) hK dX0_spentNow_16 (by decide) h (fun h => ?_) (fun h => ?_)
      · exact aw_sub [0, 2] rfl (w_X0_spentNow_34 hK hZ hF (fun h => ih h) h)
      · refine aw_aload_n hK 0 dX0_spentNow_19 rfl rfl ?_
        refine aw_gR hK fw_c0 10 (by decide) rfl q236 (fun _ h9 => h9) dX0_spentNow_20 h (fun r3 h => ?_)
        refine aw_iload_n hK 2 dX0_spentNow_23 rfl rfl ?_
        obtain _ | j4 := r3
        · exact (fw_nn_no h).elim
        replace h := fw_nn_so h
        refine aw_iald hK dX0_spentNow_24 h (fun v5 h => ?_)
        refine aw_if_ne (tgt := 34) hK dX0_spentNow_25 (by decide) h (fun h => ?_) (fun h => ?_)
        · exact aw_sub [0, 2] rfl (w_X0_spentNow_34 hK hZ hF (fun h => ih h) h)
        · refine aw_iconst (v := (nI 1)) hK dX0_spentNow_28 rfl ?_
          refine aw_iload_n hK 2 dX0_spentNow_29 rfl rfl ?_
          refine aw_ishl hK dX0_spentNow_30 ?_
          refine aw_goto (tgt := 35) hK dX0_spentNow_31 (by decide) ?_
          exact aw_sub [0, 2] rfl (w_X0_spentNow_35 hK hZ hF (fun h => ih h) h)
set_option maxHeartbeats 4000000 in
set_option maxRecDepth 100000 in
theorem w_X0_spentNow_0 {K : Kx} {r9 : Int32} {L9 : LH} (hK : Ok K cX0_spentNow 3 RX0 11 237) (hZ : fw_isZ K) (hF : Fin K (some (.int)) (some (aI r9)) L9) {j0 : Nat} {L : LH} {mc ms : Nat} (h : f_X0_spentNow j0 L = some (r9, L9, mc, ms)) : AW K L mc ms 0 [(0, aR (some j0))] [] := by
  unfold f_X0_spentNow at h
  refine aw_iconst (v := (nI 0)) hK dX0_spentNow_0 rfl ?_
  refine aw_istore_n (lv' := [(1, aI (nI 0)), (0, aR (some j0))]) hK dX0_spentNow_1 rfl (by decide) rfl ?_
  refine aw_iconst (v := (nI 0)) hK dX0_spentNow_2 rfl ?_
  refine aw_istore_n (lv' := [(2, aI (nI 0)), (1, aI (nI 0)), (0, aR (some j0))]) hK dX0_spentNow_3 rfl (by decide) rfl ?_
  exact aw_sub [2, 1, 0] rfl (w_X0_spentNow_4 hK hZ hF h)
theorem ct_X0_spentNow {j0 : Nat} {L : LH} {r9 : Int32} {L9 : LH} {mc ms : Nat} (h : f_X0_spentNow j0 L = some (r9, L9, mc, ms)) : fw_Cx yX0_spentNow (ws_ yX0_spentNow cX0_spentNow 3 (some (.int))) 11 237 [aR (some j0)] L (some (aI r9)) L9 mc ms :=
  fun b1 b2 => ct_of (own := RX0) fw_ZX_ok (by decide +kernel) rfl (Nat.le_of_ble_eq_true rfl) (fun K hZ hK hF hini => w_X0_spentNow_0 hK ⟨b1, b2, hZ⟩ hF h)
def f_X0_bestNow_44 (rec4 : Nat → Int32 → Int32 → LH → Rs Int32) (j0 : Nat) (x1 : Int32) (x2 : Int32) (L : LH) : Rs Int32 :=
  rec4 j0 x1 (x2 + (nI 1)) L
def f_X0_bestNow_39 (rec4 : Nat → Int32 → Int32 → LH → Rs Int32) (j0 : Nat) (x1 : Int32) (x2 : Int32) (sx0 : Int32) (sx1 : Int32) (L : LH) : Rs Int32 :=
  if sx1 ≤ sx0 then (
    f_X0_bestNow_44 rec4 j0 x1 x2 L
  ) else (
    f_X0_bestNow_44 rec4 j0 x2 x2 L
  )
def f_X0_bestNow_4 : Nat → Nat → Int32 → Int32 → LH → Rs Int32
  | 0, _, _, _, _ => none
  | n + 1, j0, x1, x2, L =>
    if (nI 16) ≤ x2 then (
      some (x1, L, 0, 0)
    ) else (
      fw_is 1 L j0 <|
      fw_cl (f_X0_isPuller j0 x2 L) fun v2 L1 =>
      if v2 = 0 then (
        f_X0_bestNow_44 (f_X0_bestNow_4 n) j0 x1 x2 L1
      ) else (
        fw_gR 1 L1 j0 11 fun r3 =>
        fw_nn r3 fun j4 =>
        fw_rd 100 L1 j4 x2 fun v5 =>
        if x1 = (-nI 1) then (
          f_X0_bestNow_39 (f_X0_bestNow_4 n) j0 x1 x2 (nI 0) v5 L1
        ) else (
          fw_gR 1 L1 j0 11 fun r6 =>
          fw_nn r6 fun j7 =>
          fw_rd 100 L1 j7 x1 fun v8 =>
          f_X0_bestNow_39 (f_X0_bestNow_4 n) j0 x1 x2 v8 v5 L1
        )
      )
    )
def f_X0_bestNow (j0 : Nat) (L : LH) : Rs Int32 :=
  f_X0_bestNow_4 fw_fuel j0 (-nI 1) (nI 0) L
set_option maxHeartbeats 4000000 in
set_option maxRecDepth 100000 in
theorem w_X0_bestNow_44 {K : Kx} {r9 : Int32} {L9 : LH} (hK : Ok K cX0_bestNow 3 RX0 11 237) (hZ : fw_isZ K) (hF : Fin K (some (.int)) (some (aI r9)) L9) {rec4 : Nat → Int32 → Int32 → LH → Rs Int32} (hrec4 : ∀ {j0 : Nat} {x1 : Int32} {x2 : Int32} {L : LH} {mc ms : Nat}, rec4 j0 x1 x2 L = some (r9, L9, mc, ms) → AW K L mc ms 4 [(0, aR (some j0)), (1, aI x1), (2, aI x2)] []) {j0 : Nat} {x1 : Int32} {x2 : Int32} {L : LH} {mc ms : Nat} (h : f_X0_bestNow_44 rec4 j0 x1 x2 L = some (r9, L9, mc, ms)) : AW K L mc ms 44 [(0, aR (some j0)), (1, aI x1), (2, aI x2)] [] := by
  unfold f_X0_bestNow_44 at h
  refine aw_iinc (v := (x2 + (nI 1))) (lv' := [(2, aI (x2 + (nI 1))), (0, aR (some j0)), (1, aI x1)]) hK 2 dX0_bestNow_44 rfl rfl (by decide) rfl ?_
  refine aw_goto (tgt := 4) hK dX0_bestNow_47 (by decide) ?_
  exact aw_sub [1, 2, 0] rfl (hrec4 h)
set_option maxHeartbeats 4000000 in
set_option maxRecDepth 100000 in
theorem w_X0_bestNow_39 {K : Kx} {r9 : Int32} {L9 : LH} (hK : Ok K cX0_bestNow 3 RX0 11 237) (hZ : fw_isZ K) (hF : Fin K (some (.int)) (some (aI r9)) L9) {rec4 : Nat → Int32 → Int32 → LH → Rs Int32} (hrec4 : ∀ {j0 : Nat} {x1 : Int32} {x2 : Int32} {L : LH} {mc ms : Nat}, rec4 j0 x1 x2 L = some (r9, L9, mc, ms) → AW K L mc ms 4 [(0, aR (some j0)), (1, aI x1), (2, aI x2)] []) {j0 : Nat} {x1 : Int32} {x2 : Int32} {sx0 : Int32} {sx1 : Int32} {L : LH} {mc ms : Nat} (h : f_X0_bestNow_39 rec4 j0 x1 x2 sx0 sx1 L = some (r9, L9, mc, ms)) : AW K L mc ms 39 [(0, aR (some j0)), (1, aI x1), (2, aI x2)] [aI sx0, aI sx1] := by
  unfold f_X0_bestNow_39 at h
  refine aw_icmp_le (tgt := 44) hK dX0_bestNow_39 (by decide) h (fun h => ?_) (fun h => ?_)
  · exact w_X0_bestNow_44 hK hZ hF (fun h => hrec4 h) h
  · refine aw_iload_n hK 2 dX0_bestNow_42 rfl rfl ?_
    refine aw_istore_n (lv' := [(1, aI x2), (0, aR (some j0)), (2, aI x2)]) hK dX0_bestNow_43 rfl (by decide) rfl ?_
    exact aw_sub [1, 0, 2] rfl (w_X0_bestNow_44 hK hZ hF (fun h => hrec4 h) h)
set_option maxHeartbeats 4000000 in
set_option maxRecDepth 100000 in
theorem w_X0_bestNow_4 {K : Kx} {r9 : Int32} {L9 : LH} (hK : Ok K cX0_bestNow 3 RX0 11 237) (hZ : fw_isZ K) (hF : Fin K (some (.int)) (some (aI r9)) L9) : ∀ {n : Nat} {j0 : Nat} {x1 : Int32} {x2 : Int32} {L : LH} {mc ms : Nat}, f_X0_bestNow_4 n j0 x1 x2 L = some (r9, L9, mc, ms) → AW K L mc ms 4 [(0, aR (some j0)), (1, aI x1), (2, aI x2)] [] := by
  intro n
  induction n with
  | zero =>
    intro j0 x1 x2 L mc ms h
    have h : (none : Rs Int32) = some (r9, L9, mc, ms) := h
    cases h
  | succ n ih =>
    intro j0 x1 x2 L mc ms h
    unfold f_X0_bestNow_4 at h
    refine aw_iload_n hK 2 dX0_bestNow_4 rfl rfl ?_
    refine aw_bipush (v := (nI 16)) hK dX0_bestNow_5 rfl ?_
    refine aw_icmp_ge (tgt := 50) hK dX0_bestNow_7 (by decide) h (fun h => ?_) (fun h => ?_)
    · refine aw_iload_n hK 1 dX0_bestNow_50 rfl rfl ?_
      exact aw_iret hK dX0_bestNow_51 h hF
    · refine aw_aload_n hK 0 dX0_bestNow_10 rfl rfl ?_
      refine aw_iload_n hK 2 dX0_bestNow_11 rfl rfl ?_
      obtain ⟨hj, h⟩ := fw_is_h h
      refine aw_callV_i (n := 1) hK fw_c0 hj (fun _ _ _ _ q => fw_czx hZ (ct_X0_isPuller q)) (lw_V q651 q653 qs4 q94 q654) (by decide +kernel) (by decide) rfl rfl (Nat.le_of_ble_eq_true rfl) dX0_bestNow_12 h (fun v2 L1 _ _ h => ?_)
      refine aw_if_eq (tgt := 44) hK dX0_bestNow_15 (by decide) h (fun h => ?_) (fun h => ?_)
      · exact w_X0_bestNow_44 hK hZ hF (fun h => ih h) h
      · refine aw_aload_n hK 0 dX0_bestNow_18 rfl rfl ?_
        refine aw_gR hK fw_c0 11 (by decide) rfl q237 (fun _ h9 => h9) dX0_bestNow_19 h (fun r3 h => ?_)
        refine aw_iload_n hK 2 dX0_bestNow_22 rfl rfl ?_
        obtain _ | j4 := r3
        · exact (fw_nn_no h).elim
        replace h := fw_nn_so h
        refine aw_iald hK dX0_bestNow_23 h (fun v5 h => ?_)
        refine aw_iload_n hK 1 dX0_bestNow_24 rfl rfl ?_
        refine aw_iconst (v := (-nI 1)) hK dX0_bestNow_25 rfl ?_
        refine aw_icmp_ne (tgt := 33) hK dX0_bestNow_26 (by decide) h (fun h => ?_) (fun h => ?_)
        · refine aw_aload_n hK 0 dX0_bestNow_33 rfl rfl ?_
          refine aw_gR hK fw_c0 11 (by decide) rfl q237 (fun _ h9 => h9) dX0_bestNow_34 h (fun r6 h => ?_)
          refine aw_iload_n hK 1 dX0_bestNow_37 rfl rfl ?_
          obtain _ | j7 := r6
          · exact (fw_nn_no h).elim
          replace h := fw_nn_so h
          refine aw_iald hK dX0_bestNow_38 h (fun v8 h => ?_)
          exact w_X0_bestNow_39 hK hZ hF (fun h => ih h) h
        · refine aw_iconst (v := (nI 0)) hK dX0_bestNow_29 rfl ?_
          refine aw_goto (tgt := 39) hK dX0_bestNow_30 (by decide) ?_
          exact w_X0_bestNow_39 hK hZ hF (fun h => ih h) h
set_option maxHeartbeats 4000000 in
set_option maxRecDepth 100000 in
theorem w_X0_bestNow_0 {K : Kx} {r9 : Int32} {L9 : LH} (hK : Ok K cX0_bestNow 3 RX0 11 237) (hZ : fw_isZ K) (hF : Fin K (some (.int)) (some (aI r9)) L9) {j0 : Nat} {L : LH} {mc ms : Nat} (h : f_X0_bestNow j0 L = some (r9, L9, mc, ms)) : AW K L mc ms 0 [(0, aR (some j0))] [] := by
  unfold f_X0_bestNow at h
  refine aw_iconst (v := (-nI 1)) hK dX0_bestNow_0 rfl ?_
  refine aw_istore_n (lv' := [(1, aI (-nI 1)), (0, aR (some j0))]) hK dX0_bestNow_1 rfl (by decide) rfl ?_
  refine aw_iconst (v := (nI 0)) hK dX0_bestNow_2 rfl ?_
  refine aw_istore_n (lv' := [(2, aI (nI 0)), (1, aI (-nI 1)), (0, aR (some j0))]) hK dX0_bestNow_3 rfl (by decide) rfl ?_
  exact aw_sub [2, 1, 0] rfl (w_X0_bestNow_4 hK hZ hF h)
theorem ct_X0_bestNow {j0 : Nat} {L : LH} {r9 : Int32} {L9 : LH} {mc ms : Nat} (h : f_X0_bestNow j0 L = some (r9, L9, mc, ms)) : fw_Cx yX0_bestNow (ws_ yX0_bestNow cX0_bestNow 3 (some (.int))) 11 237 [aR (some j0)] L (some (aI r9)) L9 mc ms :=
  fun b1 b2 => ct_of (own := RX0) fw_ZX_ok (by decide +kernel) rfl (Nat.le_of_ble_eq_true rfl) (fun K hZ hK hF hini => w_X0_bestNow_0 hK ⟨b1, b2, hZ⟩ hF h)
def f_X0_puller (j0 : Nat) (x1 : Int32) (x2 : Int32) (L : LH) : Rs Int32 :=
  fw_is 1 L j0 <|
  fw_cl (f_X0_isPuller j0 x1 L) fun v2 L1 =>
  if v2 = 0 then (
    some ((-nI 2), L1, 0, 0)
  ) else (
    fw_cl (f_X0_in x2.toInt64 (0 : Int64) (2 : Int64) L1) fun v4 L3 =>
    if v4 = 0 then (
      some ((-nI 2), L3, 0, 0)
    ) else (
      fw_is 1 L3 j0 <|
      fw_cl (f_X0_pullerBy j0 x1 L3) fun r6 L5 =>
      fw_nn r6 fun j9 =>
      fw_is 6 L5 j9 <|
      fw_cl (f_X7_by j9 x2 L5) fun v8 L7 =>
      some (v8, L7, 0, 0)
    )
  )
set_option maxHeartbeats 4000000 in
set_option maxRecDepth 100000 in
theorem w_X0_puller_0 {K : Kx} {r9 : Int32} {L9 : LH} (hK : Ok K cX0_puller 3 RX0 11 237) (hZ : fw_isZ K) (hF : Fin K (some (.int)) (some (aI r9)) L9) {j0 : Nat} {x1 : Int32} {x2 : Int32} {L : LH} {mc ms : Nat} (h : f_X0_puller j0 x1 x2 L = some (r9, L9, mc, ms)) : AW K L mc ms 0 [(0, aR (some j0)), (1, aI x1), (2, aI x2)] [] := by
  unfold f_X0_puller at h
  refine aw_aload_n hK 0 dX0_puller_0 rfl rfl ?_
  refine aw_iload_n hK 1 dX0_puller_1 rfl rfl ?_
  obtain ⟨hj, h⟩ := fw_is_h h
  refine aw_callV_i (n := 1) hK fw_c0 hj (fun _ _ _ _ q => fw_czx hZ (ct_X0_isPuller q)) (lw_V q651 q653 qs4 q94 q654) (by decide +kernel) (by decide) rfl rfl (Nat.le_of_ble_eq_true rfl) dX0_puller_2 h (fun v2 L1 _ _ h => ?_)
  refine aw_if_eq (tgt := 32) hK dX0_puller_5 (by decide) h (fun h => ?_) (fun h => ?_)
  · refine aw_bipush (v := (-nI 2)) hK dX0_puller_32 rfl ?_
    exact aw_iret hK dX0_puller_34 h hF
  · refine aw_iload_n hK 2 dX0_puller_8 rfl rfl ?_
    refine aw_i2l hK dX0_puller_9 ?_
    refine aw_lconst (v := 0) hK dX0_puller_10 rfl ?_
    refine aw_ldc2 (v := 2) hK q664 dX0_puller_11 ?_
    refine aw_callS_i (n := 3) hK (fun _ _ _ _ q => fw_czx hZ (ct_X0_in q)) (lw_S q310 q311 q94 q312) (by decide +kernel) (by decide) rfl rfl (Nat.le_of_ble_eq_true rfl) dX0_puller_14 h (fun v4 L3 _ _ h => ?_)
    refine aw_if_eq (tgt := 32) hK dX0_puller_17 (by decide) h (fun h => ?_) (fun h => ?_)
    · refine aw_bipush (v := (-nI 2)) hK dX0_puller_32 rfl ?_
      exact aw_iret hK dX0_puller_34 h hF
    · refine aw_aload_n hK 0 dX0_puller_20 rfl rfl ?_
      refine aw_iload_n hK 1 dX0_puller_21 rfl rfl ?_
      obtain ⟨hj, h⟩ := fw_is_h h
      refine aw_callV_r (n := 1) hK fw_c0 hj (fun _ _ _ _ q => fw_czx hZ (ct_X0_pullerBy q)) (lw_V q665 q667 qs5 q94 q668) (by decide +kernel) (by decide) rfl rfl (Nat.le_of_ble_eq_true rfl) dX0_puller_22 h (fun r6 L5 _ _ h => ?_)
      refine aw_iload_n hK 2 dX0_puller_25 rfl rfl ?_
      obtain _ | j9 := r6
      · exact (fw_nn_no h).elim
      replace h := fw_nn_so h
      obtain ⟨hj, h⟩ := fw_is_h h
      refine aw_callV_i (n := 1) hK fw_c5 hj (fun _ _ _ _ q => fw_czx hZ (ct_X7_by q)) (lw_V q684 q685 q686 q113 q687) (by decide +kernel) (by decide) rfl rfl (Nat.le_of_ble_eq_true rfl) dX0_puller_26 h (fun v8 L7 _ _ h => ?_)
      refine aw_goto (tgt := 34) hK dX0_puller_29 (by decide) ?_
      exact aw_iret hK dX0_puller_34 h hF
theorem ct_X0_puller {j0 : Nat} {x1 : Int32} {x2 : Int32} {L : LH} {r9 : Int32} {L9 : LH} {mc ms : Nat} (h : f_X0_puller j0 x1 x2 L = some (r9, L9, mc, ms)) : fw_Cx yX0_puller (ws_ yX0_puller cX0_puller 3 (some (.int))) 11 237 [aR (some j0), aI x1, aI x2] L (some (aI r9)) L9 mc ms :=
  fun b1 b2 => ct_of (own := RX0) fw_ZX_ok (by decide +kernel) rfl (Nat.le_of_ble_eq_true rfl) (fun K hZ hK hF hini => w_X0_puller_0 hK ⟨b1, b2, hZ⟩ hF h)
def f_X0_call (j0 : Nat) (x1 : Int32) (x2 : Int32) (L : LH) : Rs Int32 :=
  fw_cl (f_X0_isTwo x1 L) fun v2 L1 =>
  if v2 = 0 then (
    some ((-nI 2), L1, 0, 0)
  ) else (
    fw_cl (f_X0_isBeat x2 L1) fun v4 L3 =>
    if v4 = 0 then (
      some ((-nI 2), L3, 0, 0)
    ) else (
      fw_is 1 L3 j0 <|
      fw_cl (f_X0_callBy j0 x1 x2 L3) fun v6 L5 =>
      some (v6, L5, 0, 0)
    )
  )
set_option maxHeartbeats 4000000 in
set_option maxRecDepth 100000 in
theorem w_X0_call_0 {K : Kx} {r9 : Int32} {L9 : LH} (hK : Ok K cX0_call 3 RX0 10 218) (hZ : fw_isZ K) (hF : Fin K (some (.int)) (some (aI r9)) L9) {j0 : Nat} {x1 : Int32} {x2 : Int32} {L : LH} {mc ms : Nat} (h : f_X0_call j0 x1 x2 L = some (r9, L9, mc, ms)) : AW K L mc ms 0 [(0, aR (some j0)), (1, aI x1), (2, aI x2)] [] := by
  unfold f_X0_call at h
  refine aw_iload_n hK 1 dX0_call_0 rfl rfl ?_
  refine aw_callS_i (n := 1) hK (fun _ _ _ _ q => fw_czx hZ (ct_X0_isTwo q)) (lw_S q707 q708 q94 q709) (by decide +kernel) (by decide) rfl rfl (Nat.le_of_ble_eq_true rfl) dX0_call_1 h (fun v2 L1 _ _ h => ?_)
  refine aw_if_eq (tgt := 23) hK dX0_call_4 (by decide) h (fun h => ?_) (fun h => ?_)
  · refine aw_bipush (v := (-nI 2)) hK dX0_call_23 rfl ?_
    exact aw_iret hK dX0_call_25 h hF
  · refine aw_iload_n hK 2 dX0_call_7 rfl rfl ?_
    refine aw_callS_i (n := 1) hK (fun _ _ _ _ q => fw_czx hZ (ct_X0_isBeat q)) (lw_S q710 q711 q94 q712) (by decide +kernel) (by decide) rfl rfl (Nat.le_of_ble_eq_true rfl) dX0_call_8 h (fun v4 L3 _ _ h => ?_)
    refine aw_if_eq (tgt := 23) hK dX0_call_11 (by decide) h (fun h => ?_) (fun h => ?_)
    · refine aw_bipush (v := (-nI 2)) hK dX0_call_23 rfl ?_
      exact aw_iret hK dX0_call_25 h hF
    · refine aw_aload_n hK 0 dX0_call_14 rfl rfl ?_
      refine aw_iload_n hK 1 dX0_call_15 rfl rfl ?_
      refine aw_iload_n hK 2 dX0_call_16 rfl rfl ?_
      obtain ⟨hj, h⟩ := fw_is_h h
      refine aw_callV_i (n := 2) hK fw_c0 hj (fun _ _ _ _ q => fw_czx hZ (ct_X0_callBy q)) (lw_V q714 q716 qs6 q94 q717) (by decide +kernel) (by decide) rfl rfl (Nat.le_of_ble_eq_true rfl) dX0_call_17 h (fun v6 L5 _ _ h => ?_)
      refine aw_goto (tgt := 25) hK dX0_call_20 (by decide) ?_
      exact aw_iret hK dX0_call_25 h hF
theorem ct_X0_call {j0 : Nat} {x1 : Int32} {x2 : Int32} {L : LH} {r9 : Int32} {L9 : LH} {mc ms : Nat} (h : f_X0_call j0 x1 x2 L = some (r9, L9, mc, ms)) : fw_Cx yX0_call (ws_ yX0_call cX0_call 3 (some (.int))) 10 218 [aR (some j0), aI x1, aI x2] L (some (aI r9)) L9 mc ms :=
  fun b1 b2 => ct_of (own := RX0) fw_ZX_ok (by decide +kernel) rfl (Nat.le_of_ble_eq_true rfl) (fun K hZ hK hF hini => w_X0_call_0 hK ⟨b1, b2, hZ⟩ hF h)
def f_X0_passes_45 (j0 : Nat) (x1 : Int32) (L : LH) : Rs Unit :=
  fw_gR 1 L j0 12 fun r1 =>
  fw_nn r1 fun j2 =>
  fw_rq 110 L j2 x1 fun r3 =>
  fw_gI 1 L j0 6 fun v4 =>
  fw_nn r3 fun j5 =>
  fw_wr 100 L j5 (nI 0) v4 fun L6 =>
  fw_gR 1 L6 j0 12 fun r7 =>
  fw_nn r7 fun j8 =>
  fw_rq 110 L6 j8 x1 fun r9 =>
  fw_gI 1 L6 j0 7 fun v10 =>
  fw_nn r9 fun j11 =>
  fw_wr 100 L6 j11 (nI 3) v10 fun L12 =>
  fw_gR 1 L12 j0 10 fun r13 =>
  fw_gR 1 L12 j0 14 fun r14 =>
  fw_nn r14 fun j15 =>
  fw_rq 110 L12 j15 x1 fun r16 =>
  fw_nn r13 fun j17 =>
  fw_nn r16 fun j18 =>
  fw_cp 0 L12 j17 (nI 0) j18 (nI 0) (nI 16) fun L19 =>
  some ((), L19, 0, 0)
def f_X0_passes (j0 : Nat) (x1 : Int32) (L : LH) : Rs Unit :=
  fw_is 1 L j0 <|
  fw_cl (f_X0_rains j0 x1 L) fun _ L1 =>
  fw_gR 1 L1 j0 13 fun r2 =>
  fw_nn r2 fun j3 =>
  fw_rq 110 L1 j3 x1 fun r4 =>
  fw_cl (f_J3_fill r4 (nI 0) L1) fun _ L5 =>
  fw_gR 1 L5 j0 12 fun r6 =>
  fw_nn r6 fun j7 =>
  fw_rq 110 L5 j7 x1 fun r8 =>
  fw_nn r8 fun j9 =>
  fw_wr 100 L5 j9 (nI 1) (nI 0) fun L10 =>
  fw_gR 1 L10 j0 12 fun r11 =>
  fw_nn r11 fun j12 =>
  fw_rq 110 L10 j12 x1 fun r13 =>
  fw_nn r13 fun j14 =>
  fw_wr 100 L10 j14 (nI 2) (nI 0) fun L15 =>
  fw_is 1 L15 j0 <|
  fw_cl (f_X0_isWon j0 L15) fun v17 L16 =>
  if v17 = 0 then (
    fw_is 1 L16 j0 <|
    fw_cl (f_X0_tugs j0 x1 L16) fun _ L18 =>
    f_X0_passes_45 j0 x1 L18
  ) else (
    f_X0_passes_45 j0 x1 L16
  )
set_option maxHeartbeats 4000000 in
set_option maxRecDepth 100000 in
theorem w_X0_passes_45 {K : Kx} {r9 : Unit} {L9 : LH} (hK : Ok K cX0_passes 2 RX0 11 244) (hZ : fw_isZ K) (hF : Fin K none none L9) {j0 : Nat} {x1 : Int32} {L : LH} {mc ms : Nat} (h : f_X0_passes_45 j0 x1 L = some (r9, L9, mc, ms)) : AW K L mc ms 45 [(0, aR (some j0)), (1, aI x1)] [] := by
  unfold f_X0_passes_45 at h
  refine aw_aload_n hK 0 dX0_passes_45 rfl rfl ?_
  refine aw_gR hK fw_c0 12 (by decide) rfl q238 (fun _ h9 => h9) dX0_passes_46 h (fun r1 h => ?_)
  refine aw_iload_n hK 1 dX0_passes_49 rfl rfl ?_
  obtain _ | j2 := r1
  · exact (fw_nn_no h).elim
  replace h := fw_nn_so h
  refine aw_aald hK 10 (by decide) rfl dX0_passes_50 h (fun r3 h => ?_)
  refine aw_iconst (v := (nI 0)) hK dX0_passes_51 rfl ?_
  refine aw_aload_n hK 0 dX0_passes_52 rfl rfl ?_
  refine aw_gI hK fw_c0 6 (by decide) rfl q232 (fun _ h9 => h9) dX0_passes_53 h (fun v4 h => ?_)
  obtain _ | j5 := r3
  · exact (fw_nn_no h).elim
  replace h := fw_nn_so h
  refine aw_iast hK dX0_passes_56 h (fun L6 h => ?_)
  refine aw_aload_n hK 0 dX0_passes_57 rfl rfl ?_
  refine aw_gR hK fw_c0 12 (by decide) rfl q238 (fun _ h9 => h9) dX0_passes_58 h (fun r7 h => ?_)
  refine aw_iload_n hK 1 dX0_passes_61 rfl rfl ?_
  obtain _ | j8 := r7
  · exact (fw_nn_no h).elim
  replace h := fw_nn_so h
  refine aw_aald hK 10 (by decide) rfl dX0_passes_62 h (fun r9 h => ?_)
  refine aw_iconst (v := (nI 3)) hK dX0_passes_63 rfl ?_
  refine aw_aload_n hK 0 dX0_passes_64 rfl rfl ?_
  refine aw_gI hK fw_c0 7 (by decide) rfl q233 (fun _ h9 => h9) dX0_passes_65 h (fun v10 h => ?_)
  obtain _ | j11 := r9
  · exact (fw_nn_no h).elim
  replace h := fw_nn_so h
  refine aw_iast hK dX0_passes_68 h (fun L12 h => ?_)
  refine aw_aload_n hK 0 dX0_passes_69 rfl rfl ?_
  refine aw_gR hK fw_c0 10 (by decide) rfl q236 (fun _ h9 => h9) dX0_passes_70 h (fun r13 h => ?_)
  refine aw_iconst (v := (nI 0)) hK dX0_passes_73 rfl ?_
  refine aw_aload_n hK 0 dX0_passes_74 rfl rfl ?_
  refine aw_gR hK fw_c0 14 (by decide) rfl q240 (fun _ h9 => h9) dX0_passes_75 h (fun r14 h => ?_)
  refine aw_iload_n hK 1 dX0_passes_78 rfl rfl ?_
  obtain _ | j15 := r14
  · exact (fw_nn_no h).elim
  replace h := fw_nn_so h
  refine aw_aald hK 10 (by decide) rfl dX0_passes_79 h (fun r16 h => ?_)
  refine aw_iconst (v := (nI 0)) hK dX0_passes_80 rfl ?_
  refine aw_bipush (v := (nI 16)) hK dX0_passes_81 rfl ?_
  obtain _ | j17 := r13
  · exact (fw_nn_no h).elim
  replace h := fw_nn_so h
  obtain _ | j18 := r16
  · exact (fw_nn_no h).elim
  replace h := fw_nn_so h
  refine aw_copy hK 0 (by decide) q873 q635 q634 q115 dX0_passes_83 ⟨by decide, Nat.le_of_ble_eq_true rfl⟩ h (fun L19 h => ?_)
  exact aw_vret hK dX0_passes_86 h hF
set_option maxHeartbeats 4000000 in
set_option maxRecDepth 100000 in
theorem w_X0_passes_0 {K : Kx} {r9 : Unit} {L9 : LH} (hK : Ok K cX0_passes 2 RX0 11 244) (hZ : fw_isZ K) (hF : Fin K none none L9) {j0 : Nat} {x1 : Int32} {L : LH} {mc ms : Nat} (h : f_X0_passes j0 x1 L = some (r9, L9, mc, ms)) : AW K L mc ms 0 [(0, aR (some j0)), (1, aI x1)] [] := by
  unfold f_X0_passes at h
  refine aw_aload_n hK 0 dX0_passes_0 rfl rfl ?_
  refine aw_iload_n hK 1 dX0_passes_1 rfl rfl ?_
  obtain ⟨hj, h⟩ := fw_is_h h
  refine aw_callV_v (n := 1) hK fw_c0 hj (fun _ _ _ _ q => fw_czx hZ (ct_X0_rains q)) (lw_V q794 q796 qs12 q94 q797) (by decide +kernel) (by decide) rfl rfl (Nat.le_of_ble_eq_true rfl) dX0_passes_2 h (fun _ L1 _ _ h => ?_)
  refine aw_aload_n hK 0 dX0_passes_5 rfl rfl ?_
  refine aw_gR hK fw_c0 13 (by decide) rfl q239 (fun _ h9 => h9) dX0_passes_6 h (fun r2 h => ?_)
  refine aw_iload_n hK 1 dX0_passes_9 rfl rfl ?_
  obtain _ | j3 := r2
  · exact (fw_nn_no h).elim
  replace h := fw_nn_so h
  refine aw_aald hK 10 (by decide) rfl dX0_passes_10 h (fun r4 h => ?_)
  refine aw_iconst (v := (nI 0)) hK dX0_passes_11 rfl ?_
  refine aw_callS_v (n := 2) hK (fun _ _ _ _ q => fw_czx hZ (ct_J3_fill q)) (lw_S q789 q362 q103 q363) (by decide +kernel) (by decide) rfl rfl (Nat.le_of_ble_eq_true rfl) dX0_passes_12 h (fun _ L5 _ _ h => ?_)
  refine aw_aload_n hK 0 dX0_passes_15 rfl rfl ?_
  refine aw_gR hK fw_c0 12 (by decide) rfl q238 (fun _ h9 => h9) dX0_passes_16 h (fun r6 h => ?_)
  refine aw_iload_n hK 1 dX0_passes_19 rfl rfl ?_
  obtain _ | j7 := r6
  · exact (fw_nn_no h).elim
  replace h := fw_nn_so h
  refine aw_aald hK 10 (by decide) rfl dX0_passes_20 h (fun r8 h => ?_)
  refine aw_iconst (v := (nI 1)) hK dX0_passes_21 rfl ?_
  refine aw_iconst (v := (nI 0)) hK dX0_passes_22 rfl ?_
  obtain _ | j9 := r8
  · exact (fw_nn_no h).elim
  replace h := fw_nn_so h
  refine aw_iast hK dX0_passes_23 h (fun L10 h => ?_)
  refine aw_aload_n hK 0 dX0_passes_24 rfl rfl ?_
  refine aw_gR hK fw_c0 12 (by decide) rfl q238 (fun _ h9 => h9) dX0_passes_25 h (fun r11 h => ?_)
  refine aw_iload_n hK 1 dX0_passes_28 rfl rfl ?_
  obtain _ | j12 := r11
  · exact (fw_nn_no h).elim
  replace h := fw_nn_so h
  refine aw_aald hK 10 (by decide) rfl dX0_passes_29 h (fun r13 h => ?_)
  refine aw_iconst (v := (nI 2)) hK dX0_passes_30 rfl ?_
  refine aw_iconst (v := (nI 0)) hK dX0_passes_31 rfl ?_
  obtain _ | j14 := r13
  · exact (fw_nn_no h).elim
  replace h := fw_nn_so h
  refine aw_iast hK dX0_passes_32 h (fun L15 h => ?_)
  refine aw_aload_n hK 0 dX0_passes_33 rfl rfl ?_
  obtain ⟨hj, h⟩ := fw_is_h h
  refine aw_callV_i (n := 0) hK fw_c0 hj (fun _ _ _ _ q => fw_czx hZ (ct_X0_isWon q)) (lw_V q803 q805 qs13 q94 q806) (by decide +kernel) (by decide) rfl rfl (Nat.le_of_ble_eq_true rfl) dX0_passes_34 h (fun v17 L16 _ _ h => ?_)
  refine aw_if_ne (tgt := 45) hK dX0_passes_37 (by decide) h (fun h => ?_) (fun h => ?_)
  · exact w_X0_passes_45 hK hZ hF h
  · refine aw_aload_n hK 0 dX0_passes_40 rfl rfl ?_
    refine aw_iload_n hK 1 dX0_passes_41 rfl rfl ?_
    obtain ⟨hj, h⟩ := fw_is_h h
    refine aw_callV_v (n := 1) hK fw_c0 hj (fun _ _ _ _ q => fw_czx hZ (ct_X0_tugs q)) (lw_V q807 q809 qs14 q94 q810) (by decide +kernel) (by decide) rfl rfl (Nat.le_of_ble_eq_true rfl) dX0_passes_42 h (fun _ L18 _ _ h => ?_)
    exact w_X0_passes_45 hK hZ hF h
theorem ct_X0_passes {j0 : Nat} {x1 : Int32} {L : LH} {r9 : Unit} {L9 : LH} {mc ms : Nat} (h : f_X0_passes j0 x1 L = some (r9, L9, mc, ms)) : fw_Cx yX0_passes (ws_ yX0_passes cX0_passes 2 none) 11 244 [aR (some j0), aI x1] L none L9 mc ms :=
  fun b1 b2 => ct_of (own := RX0) fw_ZX_ok (by decide +kernel) rfl (Nat.le_of_ble_eq_true rfl) (fun K hZ hK hF hini => w_X0_passes_0 hK ⟨b1, b2, hZ⟩ hF h)
def f_X0_find_9 (rec2 : Nat → Int32 → LH → Rs Unit) : Nat → Nat → Int32 → Int32 → LH → Rs Unit
  | 0, _, _, _, _ => none
  | n + 1, j0, x1, x2, L =>
    fw_gR 1 L j0 1 fun r1 =>
    fw_nn r1 fun j2 =>
    fw_rq 106 L j2 x1 fun r3 =>
    fw_nn r3 fun j6 =>
    fw_is 2 L j6 <|
    fw_cl (f_X2_many j6 L) fun v5 L4 =>
    if v5 ≤ x2 then (
      fw_gR 1 L4 j0 15 fun r7 =>
      fw_is 1 L4 j0 <|
      fw_cl (f_X0_endOf j0 x1 L4) fun v9 L8 =>
      fw_nn r7 fun j10 =>
      fw_wr 100 L8 j10 x1 v9 fun L11 =>
      rec2 j0 (x1 + (nI 1)) L11
    ) else (
      fw_gR 1 L4 j0 10 fun r12 =>
      fw_gR 1 L4 j0 1 fun r13 =>
      fw_nn r13 fun j14 =>
      fw_rq 106 L4 j14 x1 fun r15 =>
      fw_nn r15 fun j17 =>
      fw_gR 2 L4 j17 5 fun r16 =>
      fw_nn r16 fun j20 =>
      fw_is 5 L4 j20 <|
      fw_cl (f_J2_get j20 x2 L4) fun r19 L18 =>
      fw_ck 6 L18 r19 <|
      fw_nn r19 fun j22 =>
      fw_gI 6 L18 j22 2 fun v21 =>
      fw_nn r12 fun j23 =>
      fw_wr 100 L18 j23 (((nI 8) * x1) + x2) v21 fun L24 =>
      f_X0_find_9 rec2 n j0 x1 (x2 + (nI 1)) L24
    )
def f_X0_find_109 : Nat → Nat → Int32 → LH → Rs Unit
  | 0, _, _, _ => none
  | n + 1, j0, x1, L =>
    if (nI 24) ≤ x1 then (
      some ((), L, 0, 0)
    ) else (
      fw_is 1 L j0 <|
      fw_cl (f_X0_passes j0 x1 L) fun _ L1 =>
      f_X0_find_109 n j0 (x1 + (nI 1)) L1
    )
def f_X0_find_2 : Nat → Nat → Int32 → LH → Rs Unit
  | 0, _, _, _ => none
  | n + 1, j0, x1, L =>
    if (nI 2) ≤ x1 then (
      fw_gR 1 L j0 11 fun r1 =>
      fw_cl (f_J3_fill r1 (nI 0) L) fun _ L2 =>
      fw_pI 1 L2 j0 6 (nI 12) fun L3 =>
      fw_gI 1 L3 j0 4 fun v4 =>
      fw_pI 1 L3 j0 7 v4 fun L5 =>
      fw_pI 1 L5 j0 8 (-nI 1) fun L6 =>
      fw_pI 1 L6 j0 9 (nI 0) fun L7 =>
      f_X0_find_109 fw_fuel j0 (nI 0) L7
    ) else (
      f_X0_find_9 (f_X0_find_2 n) fw_fuel j0 x1 (nI 0) L
    )
def f_X0_find (j0 : Nat) (L : LH) : Rs Unit :=
  f_X0_find_2 fw_fuel j0 (nI 0) L
set_option maxHeartbeats 4000000 in
set_option maxRecDepth 100000 in
theorem w_X0_find_9 {K : Kx} {r9 : Unit} {L9 : LH} (hK : Ok K cX0_find 3 RX0 12 265) (hZ : fw_isZ K) (hF : Fin K none none L9) {rec2 : Nat → Int32 → LH → Rs Unit} (hrec2 : ∀ {j0 : Nat} {x1 : Int32} {L : LH} {mc ms : Nat}, rec2 j0 x1 L = some (r9, L9, mc, ms) → AW K L mc ms 2 [(0, aR (some j0)), (1, aI x1)] []) : ∀ {n : Nat} {j0 : Nat} {x1 : Int32} {x2 : Int32} {L : LH} {mc ms : Nat}, f_X0_find_9 rec2 n j0 x1 x2 L = some (r9, L9, mc, ms) → AW K L mc ms 9 [(0, aR (some j0)), (1, aI x1), (2, aI x2)] [] := by
  intro n
  induction n with
  | zero =>
    intro j0 x1 x2 L mc ms h
    have h : (none : Rs Unit) = some (r9, L9, mc, ms) := h
    cases h
  | succ n ih =>
    intro j0 x1 x2 L mc ms h
    unfold f_X0_find_9 at h
    refine aw_iload_n hK 2 dX0_find_9 rfl rfl ?_
    refine aw_aload_n hK 0 dX0_find_10 rfl rfl ?_
    refine aw_gR hK fw_c0 1 (by decide) rfl q227 (fun _ h9 => h9) dX0_find_11 h (fun r1 h => ?_)
    refine aw_iload_n hK 1 dX0_find_14 rfl rfl ?_
    obtain _ | j2 := r1
    · exact (fw_nn_no h).elim
    replace h := fw_nn_so h
    refine aw_aald hK 6 (by decide) rfl dX0_find_15 h (fun r3 h => ?_)
    obtain _ | j6 := r3
    · exact (fw_nn_no h).elim
    replace h := fw_nn_so h
    obtain ⟨hj, h⟩ := fw_is_h h
    refine aw_callV_i (n := 0) hK fw_c1 hj (fun _ _ _ _ q => fw_czx hZ (ct_X2_many q)) (lw_V q656 q657 q658 q96 q659) (by decide +kernel) (by decide) rfl rfl (Nat.le_of_ble_eq_true rfl) dX0_find_16 h (fun v5 L4 _ _ h => ?_)
    refine aw_icmp_ge (tgt := 58) hK dX0_find_19 (by decide) h (fun h => ?_) (fun h => ?_)
    · refine aw_aload_n hK 0 dX0_find_58 rfl rfl ?_
      refine aw_gR hK fw_c0 15 (by decide) rfl q241 (fun _ h9 => h9) dX0_find_59 h (fun r7 h => ?_)
      refine aw_iload_n hK 1 dX0_find_62 rfl rfl ?_
      refine aw_aload_n hK 0 dX0_find_63 rfl rfl ?_
      refine aw_iload_n hK 1 dX0_find_64 rfl rfl ?_
      obtain ⟨hj, h⟩ := fw_is_h h
      refine aw_callV_i (n := 1) hK fw_c0 hj (fun _ _ _ _ q => fw_czx hZ (ct_X0_endOf q)) (lw_V q785 q787 qs10 q94 q788) (by decide +kernel) (by decide) rfl rfl (Nat.le_of_ble_eq_true rfl) dX0_find_65 h (fun v9 L8 _ _ h => ?_)
      obtain _ | j10 := r7
      · exact (fw_nn_no h).elim
      replace h := fw_nn_so h
      refine aw_iast hK dX0_find_68 h (fun L11 h => ?_)
      refine aw_iinc (v := (x1 + (nI 1))) (lv' := [(1, aI (x1 + (nI 1))), (0, aR (some j0)), (2, aI x2)]) hK 1 dX0_find_69 rfl rfl (by decide) rfl ?_
      refine aw_goto (tgt := 2) hK dX0_find_72 (by decide) ?_
      exact aw_sub [1, 0] rfl (hrec2 h)
    · refine aw_aload_n hK 0 dX0_find_22 rfl rfl ?_
      refine aw_gR hK fw_c0 10 (by decide) rfl q236 (fun _ h9 => h9) dX0_find_23 h (fun r12 h => ?_)
      refine aw_bipush (v := (nI 8)) hK dX0_find_26 rfl ?_
      refine aw_iload_n hK 1 dX0_find_28 rfl rfl ?_
      refine aw_imul hK dX0_find_29 ?_
      refine aw_iload_n hK 2 dX0_find_30 rfl rfl ?_
      refine aw_iadd hK dX0_find_31 ?_
      refine aw_aload_n hK 0 dX0_find_32 rfl rfl ?_
      refine aw_gR hK fw_c0 1 (by decide) rfl q227 (fun _ h9 => h9) dX0_find_33 h (fun r13 h => ?_)
      refine aw_iload_n hK 1 dX0_find_36 rfl rfl ?_
      obtain _ | j14 := r13
      · exact (fw_nn_no h).elim
      replace h := fw_nn_so h
      refine aw_aald hK 6 (by decide) rfl dX0_find_37 h (fun r15 h => ?_)
      obtain _ | j17 := r15
      · exact (fw_nn_no h).elim
      replace h := fw_nn_so h
      refine aw_gR hK fw_c1 5 (by decide) rfl q168 (fun _ h9 => h9) dX0_find_38 h (fun r16 h => ?_)
      refine aw_iload_n hK 2 dX0_find_41 rfl rfl ?_
      obtain _ | j20 := r16
      · exact (fw_nn_no h).elim
      replace h := fw_nn_so h
      obtain ⟨hj, h⟩ := fw_is_h h
      refine aw_callV_r (n := 1) hK fw_c4 hj (fun _ _ _ _ q => fw_czx hZ (ct_J2_get q)) (lw_V q669 q670 q671 q99 q672) (by decide +kernel) (by decide) rfl rfl (Nat.le_of_ble_eq_true rfl) dX0_find_42 h (fun r19 L18 _ _ h => ?_)
      refine aw_ck hK fw_c5 q683 dX0_find_45 h (fun h => ?_)
      obtain _ | j22 := r19
      · exact (fw_nn_no h).elim
      replace h := fw_nn_so h
      refine aw_gIN hK fw_c5 2 (by decide) rfl (fw_nsW hK hZ (w := Cond.fieldLinkNest "TugOfWar" 214 "TugOfWar$Puller" "wind" "I" "TugOfWar") (by decide)) (fun _ h9 => h9) dX0_find_48 h (fun v21 h => ?_)
      obtain _ | j23 := r12
      · exact (fw_nn_no h).elim
      replace h := fw_nn_so h
      refine aw_iast hK dX0_find_51 h (fun L24 h => ?_)
      refine aw_iinc (v := (x2 + (nI 1))) (lv' := [(2, aI (x2 + (nI 1))), (0, aR (some j0)), (1, aI x1)]) hK 2 dX0_find_52 rfl rfl (by decide) rfl ?_
      refine aw_goto (tgt := 9) hK dX0_find_55 (by decide) ?_
      exact aw_sub [1, 2, 0] rfl (ih h)
set_option maxHeartbeats 4000000 in
set_option maxRecDepth 100000 in
theorem w_X0_find_109 {K : Kx} {r9 : Unit} {L9 : LH} (hK : Ok K cX0_find 3 RX0 12 265) (hZ : fw_isZ K) (hF : Fin K none none L9) : ∀ {n : Nat} {j0 : Nat} {x1 : Int32} {L : LH} {mc ms : Nat}, f_X0_find_109 n j0 x1 L = some (r9, L9, mc, ms) → AW K L mc ms 109 [(0, aR (some j0)), (1, aI x1)] [] := by
  intro n
  induction n with
  | zero =>
    intro j0 x1 L mc ms h
    have h : (none : Rs Unit) = some (r9, L9, mc, ms) := h
    cases h
  | succ n ih =>
    intro j0 x1 L mc ms h
    unfold f_X0_find_109 at h
    refine aw_iload_n hK 1 dX0_find_109 rfl rfl ?_
    refine aw_bipush (v := (nI 24)) hK dX0_find_110 rfl ?_
    refine aw_icmp_ge (tgt := 126) hK dX0_find_112 (by decide) h (fun h => ?_) (fun h => ?_)
    · exact aw_vret hK dX0_find_126 h hF
    · refine aw_aload_n hK 0 dX0_find_115 rfl rfl ?_
      refine aw_iload_n hK 1 dX0_find_116 rfl rfl ?_
      obtain ⟨hj, h⟩ := fw_is_h h
      refine aw_callV_v (n := 1) hK fw_c0 hj (fun _ _ _ _ q => fw_czx hZ (ct_X0_passes q)) (lw_V q790 q792 qs11 q94 q793) (by decide +kernel) (by decide) rfl rfl (Nat.le_of_ble_eq_true rfl) dX0_find_117 h (fun _ L1 _ _ h => ?_)
      refine aw_iinc (v := (x1 + (nI 1))) (lv' := [(1, aI (x1 + (nI 1))), (0, aR (some j0))]) hK 1 dX0_find_120 rfl rfl (by decide) rfl ?_
      refine aw_goto (tgt := 109) hK dX0_find_123 (by decide) ?_
      exact aw_sub [1, 0] rfl (ih h)
set_option maxHeartbeats 4000000 in
set_option maxRecDepth 100000 in
theorem w_X0_find_2 {K : Kx} {r9 : Unit} {L9 : LH} (hK : Ok K cX0_find 3 RX0 12 265) (hZ : fw_isZ K) (hF : Fin K none none L9) : ∀ {n : Nat} {j0 : Nat} {x1 : Int32} {L : LH} {mc ms : Nat}, f_X0_find_2 n j0 x1 L = some (r9, L9, mc, ms) → AW K L mc ms 2 [(0, aR (some j0)), (1, aI x1)] [] := by
  intro n
  induction n with
  | zero =>
    intro j0 x1 L mc ms h
    have h : (none : Rs Unit) = some (r9, L9, mc, ms) := h
    cases h
  | succ n ih =>
    intro j0 x1 L mc ms h
    unfold f_X0_find_2 at h
    refine aw_iload_n hK 1 dX0_find_2 rfl rfl ?_
    refine aw_iconst (v := (nI 2)) hK dX0_find_3 rfl ?_
    refine aw_icmp_ge (tgt := 75) hK dX0_find_4 (by decide) h (fun h => ?_) (fun h => ?_)
    · refine aw_aload_n hK 0 dX0_find_75 rfl rfl ?_
      refine aw_gR hK fw_c0 11 (by decide) rfl q237 (fun _ h9 => h9) dX0_find_76 h (fun r1 h => ?_)
      refine aw_iconst (v := (nI 0)) hK dX0_find_79 rfl ?_
      refine aw_callS_v (n := 2) hK (fun _ _ _ _ q => fw_czx hZ (ct_J3_fill q)) (lw_S q789 q362 q103 q363) (by decide +kernel) (by decide) rfl rfl (Nat.le_of_ble_eq_true rfl) dX0_find_80 h (fun _ L2 _ _ h => ?_)
      refine aw_aload_n hK 0 dX0_find_83 rfl rfl ?_
      refine aw_bipush (v := (nI 12)) hK dX0_find_84 rfl ?_
      refine aw_pI hK fw_c0 6 (by decide) rfl q232 (fun _ h9 => h9) rfl rfl rfl dX0_find_86 h (fun L3 h => ?_)
      refine aw_aload_n hK 0 dX0_find_89 rfl rfl ?_
      refine aw_aload_n hK 0 dX0_find_90 rfl rfl ?_
      refine aw_gI hK fw_c0 4 (by decide) rfl q230 (fun _ h9 => h9) dX0_find_91 h (fun v4 h => ?_)
      refine aw_pI hK fw_c0 7 (by decide) rfl q233 (fun _ h9 => h9) rfl rfl rfl dX0_find_94 h (fun L5 h => ?_)
      refine aw_aload_n hK 0 dX0_find_97 rfl rfl ?_
      refine aw_iconst (v := (-nI 1)) hK dX0_find_98 rfl ?_
      refine aw_pI hK fw_c0 8 (by decide) rfl q234 (fun _ h9 => h9) rfl rfl rfl dX0_find_99 h (fun L6 h => ?_)
      refine aw_aload_n hK 0 dX0_find_102 rfl rfl ?_
      refine aw_iconst (v := (nI 0)) hK dX0_find_103 rfl ?_
      refine aw_pI hK fw_c0 9 (by decide) rfl q235 (fun _ h9 => h9) rfl rfl rfl dX0_find_104 h (fun L7 h => ?_)
      refine aw_iconst (v := (nI 0)) hK dX0_find_107 rfl ?_
      refine aw_istore_n (lv' := [(1, aI (nI 0)), (0, aR (some j0))]) hK dX0_find_108 rfl (by decide) rfl ?_
      exact aw_sub [1, 0] rfl (w_X0_find_109 hK hZ hF h)
    · refine aw_iconst (v := (nI 0)) hK dX0_find_7 rfl ?_
      refine aw_istore_n (lv' := [(2, aI (nI 0)), (0, aR (some j0)), (1, aI x1)]) hK dX0_find_8 rfl (by decide) rfl ?_
      exact aw_sub [1, 2, 0] rfl (w_X0_find_9 hK hZ hF (fun h => ih h) h)
set_option maxHeartbeats 4000000 in
set_option maxRecDepth 100000 in
theorem w_X0_find_0 {K : Kx} {r9 : Unit} {L9 : LH} (hK : Ok K cX0_find 3 RX0 12 265) (hZ : fw_isZ K) (hF : Fin K none none L9) {j0 : Nat} {L : LH} {mc ms : Nat} (h : f_X0_find j0 L = some (r9, L9, mc, ms)) : AW K L mc ms 0 [(0, aR (some j0))] [] := by
  unfold f_X0_find at h
  refine aw_iconst (v := (nI 0)) hK dX0_find_0 rfl ?_
  refine aw_istore_n (lv' := [(1, aI (nI 0)), (0, aR (some j0))]) hK dX0_find_1 rfl (by decide) rfl ?_
  exact aw_sub [1, 0] rfl (w_X0_find_2 hK hZ hF h)
theorem ct_X0_find {j0 : Nat} {L : LH} {r9 : Unit} {L9 : LH} {mc ms : Nat} (h : f_X0_find j0 L = some (r9, L9, mc, ms)) : fw_Cx yX0_find (ws_ yX0_find cX0_find 3 none) 12 265 [aR (some j0)] L none L9 mc ms :=
  fun b1 b2 => ct_of (own := RX0) fw_ZX_ok (by decide +kernel) rfl (Nat.le_of_ble_eq_true rfl) (fun K hZ hK hF hini => w_X0_find_0 hK ⟨b1, b2, hZ⟩ hF h)
def f_X0_at (j0 : Nat) (x1 : Int32) (x2 : Int32) (x3 : Int32) (L : LH) : Rs Int32 :=
  fw_is 1 L j0 <|
  fw_cl (f_X0_find j0 L) fun _ L1 =>
  fw_cl (f_X0_isBeat x1 L1) fun v3 L2 =>
  if v3 = 0 then (
    some ((-nI 2), L2, 0, 0)
  ) else (
    fw_is 1 L2 j0 <|
    fw_cl (f_X0_isPuller j0 x2 L2) fun v5 L4 =>
    if v5 = 0 then (
      some ((-nI 2), L4, 0, 0)
    ) else (
      fw_cl (f_X0_isTwo x3 L4) fun v7 L6 =>
      if v7 = 0 then (
        some ((-nI 2), L6, 0, 0)
      ) else (
        fw_is 1 L6 j0 <|
        fw_cl (f_X0_atBy j0 x1 x2 x3 L6) fun v9 L8 =>
        some (v9, L8, 0, 0)
      )
    )
  )
set_option maxHeartbeats 4000000 in
set_option maxRecDepth 100000 in
theorem w_X0_at_0 {K : Kx} {r9 : Int32} {L9 : LH} (hK : Ok K cX0_at 4 RX0 13 287) (hZ : fw_isZ K) (hF : Fin K (some (.int)) (some (aI r9)) L9) {j0 : Nat} {x1 : Int32} {x2 : Int32} {x3 : Int32} {L : LH} {mc ms : Nat} (h : f_X0_at j0 x1 x2 x3 L = some (r9, L9, mc, ms)) : AW K L mc ms 0 [(0, aR (some j0)), (1, aI x1), (2, aI x2), (3, aI x3)] [] := by
  unfold f_X0_at at h
  refine aw_aload_n hK 0 dX0_at_0 rfl rfl ?_
  obtain ⟨hj, h⟩ := fw_is_h h
  refine aw_callV_v (n := 0) hK fw_c0 hj (fun _ _ _ _ q => fw_czx hZ (ct_X0_find q)) (lw_V q781 q783 qs9 q94 q784) (by decide +kernel) (by decide) rfl rfl (Nat.le_of_ble_eq_true rfl) dX0_at_1 h (fun _ L1 _ _ h => ?_)
  refine aw_iload_n hK 1 dX0_at_4 rfl rfl ?_
  refine aw_callS_i (n := 1) hK (fun _ _ _ _ q => fw_czx hZ (ct_X0_isBeat q)) (lw_S q710 q711 q94 q712) (by decide +kernel) (by decide) rfl rfl (Nat.le_of_ble_eq_true rfl) dX0_at_5 h (fun v3 L2 _ _ h => ?_)
  refine aw_if_eq (tgt := 36) hK dX0_at_8 (by decide) h (fun h => ?_) (fun h => ?_)
  · refine aw_bipush (v := (-nI 2)) hK dX0_at_36 rfl ?_
    exact aw_iret hK dX0_at_38 h hF
  · refine aw_aload_n hK 0 dX0_at_11 rfl rfl ?_
    refine aw_iload_n hK 2 dX0_at_12 rfl rfl ?_
    obtain ⟨hj, h⟩ := fw_is_h h
    refine aw_callV_i (n := 1) hK fw_c0 hj (fun _ _ _ _ q => fw_czx hZ (ct_X0_isPuller q)) (lw_V q651 q653 qs4 q94 q654) (by decide +kernel) (by decide) rfl rfl (Nat.le_of_ble_eq_true rfl) dX0_at_13 h (fun v5 L4 _ _ h => ?_)
    refine aw_if_eq (tgt := 36) hK dX0_at_16 (by decide) h (fun h => ?_) (fun h => ?_)
    · refine aw_bipush (v := (-nI 2)) hK dX0_at_36 rfl ?_
      exact aw_iret hK dX0_at_38 h hF
    · refine aw_iload_n hK 3 dX0_at_19 rfl rfl ?_
      refine aw_callS_i (n := 1) hK (fun _ _ _ _ q => fw_czx hZ (ct_X0_isTwo q)) (lw_S q707 q708 q94 q709) (by decide +kernel) (by decide) rfl rfl (Nat.le_of_ble_eq_true rfl) dX0_at_20 h (fun v7 L6 _ _ h => ?_)
      refine aw_if_eq (tgt := 36) hK dX0_at_23 (by decide) h (fun h => ?_) (fun h => ?_)
      · refine aw_bipush (v := (-nI 2)) hK dX0_at_36 rfl ?_
        exact aw_iret hK dX0_at_38 h hF
      · refine aw_aload_n hK 0 dX0_at_26 rfl rfl ?_
        refine aw_iload_n hK 1 dX0_at_27 rfl rfl ?_
        refine aw_iload_n hK 2 dX0_at_28 rfl rfl ?_
        refine aw_iload_n hK 3 dX0_at_29 rfl rfl ?_
        obtain ⟨hj, h⟩ := fw_is_h h
        refine aw_callV_i (n := 3) hK fw_c0 hj (fun _ _ _ _ q => fw_czx hZ (ct_X0_atBy q)) (lw_V q878 q880 qs19 q94 q881) (by decide +kernel) (by decide) rfl rfl (Nat.le_of_ble_eq_true rfl) dX0_at_30 h (fun v9 L8 _ _ h => ?_)
        refine aw_goto (tgt := 38) hK dX0_at_33 (by decide) ?_
        exact aw_iret hK dX0_at_38 h hF
theorem ct_X0_at {j0 : Nat} {x1 : Int32} {x2 : Int32} {x3 : Int32} {L : LH} {r9 : Int32} {L9 : LH} {mc ms : Nat} (h : f_X0_at j0 x1 x2 x3 L = some (r9, L9, mc, ms)) : fw_Cx yX0_at (ws_ yX0_at cX0_at 4 (some (.int))) 13 287 [aR (some j0), aI x1, aI x2, aI x3] L (some (aI r9)) L9 mc ms :=
  fun b1 b2 => ct_of (own := RX0) fw_ZX_ok (by decide +kernel) rfl (Nat.le_of_ble_eq_true rfl) (fun K hZ hK hF hini => w_X0_at_0 hK ⟨b1, b2, hZ⟩ hF h)
def f_X0_won (j0 : Nat) (x1 : Int32) (L : LH) : Rs Int32 :=
  fw_is 1 L j0 <|
  fw_cl (f_X0_find j0 L) fun _ L1 =>
  fw_cl (f_X0_isTwo x1 L1) fun v3 L2 =>
  if v3 = 0 then (
    some ((-nI 2), L2, 0, 0)
  ) else (
    if x1 = 0 then (
      fw_is 1 L2 j0 <|
      fw_cl (f_X0_winner j0 L2) fun v6 L5 =>
      some (v6, L5, 0, 0)
    ) else (
      fw_gI 1 L2 j0 8 fun v4 =>
      some (v4, L2, 0, 0)
    )
  )
set_option maxHeartbeats 4000000 in
set_option maxRecDepth 100000 in
theorem w_X0_won_0 {K : Kx} {r9 : Int32} {L9 : LH} (hK : Ok K cX0_won 2 RX0 13 287) (hZ : fw_isZ K) (hF : Fin K (some (.int)) (some (aI r9)) L9) {j0 : Nat} {x1 : Int32} {L : LH} {mc ms : Nat} (h : f_X0_won j0 x1 L = some (r9, L9, mc, ms)) : AW K L mc ms 0 [(0, aR (some j0)), (1, aI x1)] [] := by
  unfold f_X0_won at h
  refine aw_aload_n hK 0 dX0_won_0 rfl rfl ?_
  obtain ⟨hj, h⟩ := fw_is_h h
  refine aw_callV_v (n := 0) hK fw_c0 hj (fun _ _ _ _ q => fw_czx hZ (ct_X0_find q)) (lw_V q781 q783 qs9 q94 q784) (by decide +kernel) (by decide) rfl rfl (Nat.le_of_ble_eq_true rfl) dX0_won_1 h (fun _ L1 _ _ h => ?_)
  refine aw_iload_n hK 1 dX0_won_4 rfl rfl ?_
  refine aw_callS_i (n := 1) hK (fun _ _ _ _ q => fw_czx hZ (ct_X0_isTwo q)) (lw_S q707 q708 q94 q709) (by decide +kernel) (by decide) rfl rfl (Nat.le_of_ble_eq_true rfl) dX0_won_5 h (fun v3 L2 _ _ h => ?_)
  refine aw_if_eq (tgt := 29) hK dX0_won_8 (by decide) h (fun h => ?_) (fun h => ?_)
  · refine aw_bipush (v := (-nI 2)) hK dX0_won_29 rfl ?_
    exact aw_iret hK dX0_won_31 h hF
  · refine aw_iload_n hK 1 dX0_won_11 rfl rfl ?_
    refine aw_if_ne (tgt := 22) hK dX0_won_12 (by decide) h (fun h => ?_) (fun h => ?_)
    · refine aw_aload_n hK 0 dX0_won_22 rfl rfl ?_
      refine aw_gI hK fw_c0 8 (by decide) rfl q234 (fun _ h9 => h9) dX0_won_23 h (fun v4 h => ?_)
      refine aw_goto (tgt := 31) hK dX0_won_26 (by decide) ?_
      exact aw_iret hK dX0_won_31 h hF
    · refine aw_aload_n hK 0 dX0_won_15 rfl rfl ?_
      obtain ⟨hj, h⟩ := fw_is_h h
      refine aw_callV_i (n := 0) hK fw_c0 hj (fun _ _ _ _ q => fw_czx hZ (ct_X0_winner q)) (lw_V q886 q888 qs20 q94 q889) (by decide +kernel) (by decide) rfl rfl (Nat.le_of_ble_eq_true rfl) dX0_won_16 h (fun v6 L5 _ _ h => ?_)
      refine aw_goto (tgt := 31) hK dX0_won_19 (by decide) ?_
      exact aw_iret hK dX0_won_31 h hF
theorem ct_X0_won {j0 : Nat} {x1 : Int32} {L : LH} {r9 : Int32} {L9 : LH} {mc ms : Nat} (h : f_X0_won j0 x1 L = some (r9, L9, mc, ms)) : fw_Cx yX0_won (ws_ yX0_won cX0_won 2 (some (.int))) 13 287 [aR (some j0), aI x1] L (some (aI r9)) L9 mc ms :=
  fun b1 b2 => ct_of (own := RX0) fw_ZX_ok (by decide +kernel) rfl (Nat.le_of_ble_eq_true rfl) (fun K hZ hK hF hini => w_X0_won_0 hK ⟨b1, b2, hZ⟩ hF h)
def f_X0_furthest (j0 : Nat) (x1 : Int32) (L : LH) : Rs Int32 :=
  fw_is 1 L j0 <|
  fw_cl (f_X0_find j0 L) fun _ L1 =>
  fw_cl (f_X0_isTwo x1 L1) fun v3 L2 =>
  if v3 = 0 then (
    some ((-nI 2), L2, 0, 0)
  ) else (
    fw_is 1 L2 j0 <|
    fw_cl (f_X0_furthestBy j0 x1 L2) fun v5 L4 =>
    some (v5, L4, 0, 0)
  )
set_option maxHeartbeats 4000000 in
set_option maxRecDepth 100000 in
theorem w_X0_furthest_0 {K : Kx} {r9 : Int32} {L9 : LH} (hK : Ok K cX0_furthest 2 RX0 13 287) (hZ : fw_isZ K) (hF : Fin K (some (.int)) (some (aI r9)) L9) {j0 : Nat} {x1 : Int32} {L : LH} {mc ms : Nat} (h : f_X0_furthest j0 x1 L = some (r9, L9, mc, ms)) : AW K L mc ms 0 [(0, aR (some j0)), (1, aI x1)] [] := by
  unfold f_X0_furthest at h
  refine aw_aload_n hK 0 dX0_furthest_0 rfl rfl ?_
  obtain ⟨hj, h⟩ := fw_is_h h
  refine aw_callV_v (n := 0) hK fw_c0 hj (fun _ _ _ _ q => fw_czx hZ (ct_X0_find q)) (lw_V q781 q783 qs9 q94 q784) (by decide +kernel) (by decide) rfl rfl (Nat.le_of_ble_eq_true rfl) dX0_furthest_1 h (fun _ L1 _ _ h => ?_)
  refine aw_iload_n hK 1 dX0_furthest_4 rfl rfl ?_
  refine aw_callS_i (n := 1) hK (fun _ _ _ _ q => fw_czx hZ (ct_X0_isTwo q)) (lw_S q707 q708 q94 q709) (by decide +kernel) (by decide) rfl rfl (Nat.le_of_ble_eq_true rfl) dX0_furthest_5 h (fun v3 L2 _ _ h => ?_)
  refine aw_if_eq (tgt := 19) hK dX0_furthest_8 (by decide) h (fun h => ?_) (fun h => ?_)
  · refine aw_bipush (v := (-nI 2)) hK dX0_furthest_19 rfl ?_
    exact aw_iret hK dX0_furthest_21 h hF
  · refine aw_aload_n hK 0 dX0_furthest_11 rfl rfl ?_
    refine aw_iload_n hK 1 dX0_furthest_12 rfl rfl ?_
    obtain ⟨hj, h⟩ := fw_is_h h
    refine aw_callV_i (n := 1) hK fw_c0 hj (fun _ _ _ _ q => fw_czx hZ (ct_X0_furthestBy q)) (lw_V q894 q896 qs21 q94 q897) (by decide +kernel) (by decide) rfl rfl (Nat.le_of_ble_eq_true rfl) dX0_furthest_13 h (fun v5 L4 _ _ h => ?_)
    refine aw_goto (tgt := 21) hK dX0_furthest_16 (by decide) ?_
    exact aw_iret hK dX0_furthest_21 h hF
theorem ct_X0_furthest {j0 : Nat} {x1 : Int32} {L : LH} {r9 : Int32} {L9 : LH} {mc ms : Nat} (h : f_X0_furthest j0 x1 L = some (r9, L9, mc, ms)) : fw_Cx yX0_furthest (ws_ yX0_furthest cX0_furthest 2 (some (.int))) 13 287 [aR (some j0), aI x1] L (some (aI r9)) L9 mc ms :=
  fun b1 b2 => ct_of (own := RX0) fw_ZX_ok (by decide +kernel) rfl (Nat.le_of_ble_eq_true rfl) (fun K hZ hK hF hini => w_X0_furthest_0 hK ⟨b1, b2, hZ⟩ hF h)
def f_X0_done (j0 : Nat) (x1 : Int32) (L : LH) : Rs Int32 :=
  fw_is 1 L j0 <|
  fw_cl (f_X0_find j0 L) fun _ L1 =>
  fw_is 1 L1 j0 <|
  fw_cl (f_X0_isPuller j0 x1 L1) fun v3 L2 =>
  if v3 = 0 then (
    some ((-nI 2), L2, 0, 0)
  ) else (
    fw_gR 1 L2 j0 11 fun r4 =>
    fw_nn r4 fun j5 =>
    fw_rd 100 L2 j5 x1 fun v6 =>
    some (v6, L2, 0, 0)
  )
set_option maxHeartbeats 4000000 in
set_option maxRecDepth 100000 in
theorem w_X0_done_0 {K : Kx} {r9 : Int32} {L9 : LH} (hK : Ok K cX0_done 2 RX0 13 287) (hZ : fw_isZ K) (hF : Fin K (some (.int)) (some (aI r9)) L9) {j0 : Nat} {x1 : Int32} {L : LH} {mc ms : Nat} (h : f_X0_done j0 x1 L = some (r9, L9, mc, ms)) : AW K L mc ms 0 [(0, aR (some j0)), (1, aI x1)] [] := by
  unfold f_X0_done at h
  refine aw_aload_n hK 0 dX0_done_0 rfl rfl ?_
  obtain ⟨hj, h⟩ := fw_is_h h
  refine aw_callV_v (n := 0) hK fw_c0 hj (fun _ _ _ _ q => fw_czx hZ (ct_X0_find q)) (lw_V q781 q783 qs9 q94 q784) (by decide +kernel) (by decide) rfl rfl (Nat.le_of_ble_eq_true rfl) dX0_done_1 h (fun _ L1 _ _ h => ?_)
  refine aw_aload_n hK 0 dX0_done_4 rfl rfl ?_
  refine aw_iload_n hK 1 dX0_done_5 rfl rfl ?_
  obtain ⟨hj, h⟩ := fw_is_h h
  refine aw_callV_i (n := 1) hK fw_c0 hj (fun _ _ _ _ q => fw_czx hZ (ct_X0_isPuller q)) (lw_V q651 q653 qs4 q94 q654) (by decide +kernel) (by decide) rfl rfl (Nat.le_of_ble_eq_true rfl) dX0_done_6 h (fun v3 L2 _ _ h => ?_)
  refine aw_if_eq (tgt := 21) hK dX0_done_9 (by decide) h (fun h => ?_) (fun h => ?_)
  · refine aw_bipush (v := (-nI 2)) hK dX0_done_21 rfl ?_
    exact aw_iret hK dX0_done_23 h hF
  · refine aw_aload_n hK 0 dX0_done_12 rfl rfl ?_
    refine aw_gR hK fw_c0 11 (by decide) rfl q237 (fun _ h9 => h9) dX0_done_13 h (fun r4 h => ?_)
    refine aw_iload_n hK 1 dX0_done_16 rfl rfl ?_
    obtain _ | j5 := r4
    · exact (fw_nn_no h).elim
    replace h := fw_nn_so h
    refine aw_iald hK dX0_done_17 h (fun v6 h => ?_)
    refine aw_goto (tgt := 23) hK dX0_done_18 (by decide) ?_
    exact aw_iret hK dX0_done_23 h hF
theorem ct_X0_done {j0 : Nat} {x1 : Int32} {L : LH} {r9 : Int32} {L9 : LH} {mc ms : Nat} (h : f_X0_done j0 x1 L = some (r9, L9, mc, ms)) : fw_Cx yX0_done (ws_ yX0_done cX0_done 2 (some (.int))) 13 287 [aR (some j0), aI x1] L (some (aI r9)) L9 mc ms :=
  fun b1 b2 => ct_of (own := RX0) fw_ZX_ok (by decide +kernel) rfl (Nat.le_of_ble_eq_true rfl) (fun K hZ hK hF hini => w_X0_done_0 hK ⟨b1, b2, hZ⟩ hF h)
def f_X0_spent (j0 : Nat) (L : LH) : Rs Int32 :=
  fw_is 1 L j0 <|
  fw_cl (f_X0_find j0 L) fun _ L1 =>
  fw_is 1 L1 j0 <|
  fw_cl (f_X0_spentNow j0 L1) fun v3 L2 =>
  some (v3, L2, 0, 0)
set_option maxHeartbeats 4000000 in
set_option maxRecDepth 100000 in
theorem w_X0_spent_0 {K : Kx} {r9 : Int32} {L9 : LH} (hK : Ok K cX0_spent 1 RX0 13 287) (hZ : fw_isZ K) (hF : Fin K (some (.int)) (some (aI r9)) L9) {j0 : Nat} {L : LH} {mc ms : Nat} (h : f_X0_spent j0 L = some (r9, L9, mc, ms)) : AW K L mc ms 0 [(0, aR (some j0))] [] := by
  unfold f_X0_spent at h
  refine aw_aload_n hK 0 dX0_spent_0 rfl rfl ?_
  obtain ⟨hj, h⟩ := fw_is_h h
  refine aw_callV_v (n := 0) hK fw_c0 hj (fun _ _ _ _ q => fw_czx hZ (ct_X0_find q)) (lw_V q781 q783 qs9 q94 q784) (by decide +kernel) (by decide) rfl rfl (Nat.le_of_ble_eq_true rfl) dX0_spent_1 h (fun _ L1 _ _ h => ?_)
  refine aw_aload_n hK 0 dX0_spent_4 rfl rfl ?_
  obtain ⟨hj, h⟩ := fw_is_h h
  refine aw_callV_i (n := 0) hK fw_c0 hj (fun _ _ _ _ q => fw_czx hZ (ct_X0_spentNow q)) (lw_V q907 q909 qs22 q94 q910) (by decide +kernel) (by decide) rfl rfl (Nat.le_of_ble_eq_true rfl) dX0_spent_5 h (fun v3 L2 _ _ h => ?_)
  exact aw_iret hK dX0_spent_8 h hF
theorem ct_X0_spent {j0 : Nat} {L : LH} {r9 : Int32} {L9 : LH} {mc ms : Nat} (h : f_X0_spent j0 L = some (r9, L9, mc, ms)) : fw_Cx yX0_spent (ws_ yX0_spent cX0_spent 1 (some (.int))) 13 287 [aR (some j0)] L (some (aI r9)) L9 mc ms :=
  fun b1 b2 => ct_of (own := RX0) fw_ZX_ok (by decide +kernel) rfl (Nat.le_of_ble_eq_true rfl) (fun K hZ hK hF hini => w_X0_spent_0 hK ⟨b1, b2, hZ⟩ hF h)
def f_X0_best (j0 : Nat) (L : LH) : Rs Int32 :=
  fw_is 1 L j0 <|
  fw_cl (f_X0_find j0 L) fun _ L1 =>
  fw_is 1 L1 j0 <|
  fw_cl (f_X0_bestNow j0 L1) fun v3 L2 =>
  some (v3, L2, 0, 0)
set_option maxHeartbeats 4000000 in
set_option maxRecDepth 100000 in
theorem w_X0_best_0 {K : Kx} {r9 : Int32} {L9 : LH} (hK : Ok K cX0_best 1 RX0 13 287) (hZ : fw_isZ K) (hF : Fin K (some (.int)) (some (aI r9)) L9) {j0 : Nat} {L : LH} {mc ms : Nat} (h : f_X0_best j0 L = some (r9, L9, mc, ms)) : AW K L mc ms 0 [(0, aR (some j0))] [] := by
  unfold f_X0_best at h
  refine aw_aload_n hK 0 dX0_best_0 rfl rfl ?_
  obtain ⟨hj, h⟩ := fw_is_h h
  refine aw_callV_v (n := 0) hK fw_c0 hj (fun _ _ _ _ q => fw_czx hZ (ct_X0_find q)) (lw_V q781 q783 qs9 q94 q784) (by decide +kernel) (by decide) rfl rfl (Nat.le_of_ble_eq_true rfl) dX0_best_1 h (fun _ L1 _ _ h => ?_)
  refine aw_aload_n hK 0 dX0_best_4 rfl rfl ?_
  obtain ⟨hj, h⟩ := fw_is_h h
  refine aw_callV_i (n := 0) hK fw_c0 hj (fun _ _ _ _ q => fw_czx hZ (ct_X0_bestNow q)) (lw_V q915 q917 qs23 q94 q918) (by decide +kernel) (by decide) rfl rfl (Nat.le_of_ble_eq_true rfl) dX0_best_5 h (fun v3 L2 _ _ h => ?_)
  exact aw_iret hK dX0_best_8 h hF
theorem ct_X0_best {j0 : Nat} {L : LH} {r9 : Int32} {L9 : LH} {mc ms : Nat} (h : f_X0_best j0 L = some (r9, L9, mc, ms)) : fw_Cx yX0_best (ws_ yX0_best cX0_best 1 (some (.int))) 13 287 [aR (some j0)] L (some (aI r9)) L9 mc ms :=
  fun b1 b2 => ct_of (own := RX0) fw_ZX_ok (by decide +kernel) rfl (Nat.le_of_ble_eq_true rfl) (fun K hZ hK hF hini => w_X0_best_0 hK ⟨b1, b2, hZ⟩ hF h)
def f_X0_level (j0 : Nat) (L : LH) : Rs Int32 :=
  fw_is 1 L j0 <|
  fw_cl (f_X0_find j0 L) fun _ L1 =>
  fw_gI 1 L1 j0 9 fun v2 =>
  some (v2, L1, 0, 0)
set_option maxHeartbeats 4000000 in
set_option maxRecDepth 100000 in
theorem w_X0_level_0 {K : Kx} {r9 : Int32} {L9 : LH} (hK : Ok K cX0_level 1 RX0 13 287) (hZ : fw_isZ K) (hF : Fin K (some (.int)) (some (aI r9)) L9) {j0 : Nat} {L : LH} {mc ms : Nat} (h : f_X0_level j0 L = some (r9, L9, mc, ms)) : AW K L mc ms 0 [(0, aR (some j0))] [] := by
  unfold f_X0_level at h
  refine aw_aload_n hK 0 dX0_level_0 rfl rfl ?_
  obtain ⟨hj, h⟩ := fw_is_h h
  refine aw_callV_v (n := 0) hK fw_c0 hj (fun _ _ _ _ q => fw_czx hZ (ct_X0_find q)) (lw_V q781 q783 qs9 q94 q784) (by decide +kernel) (by decide) rfl rfl (Nat.le_of_ble_eq_true rfl) dX0_level_1 h (fun _ L1 _ _ h => ?_)
  refine aw_aload_n hK 0 dX0_level_4 rfl rfl ?_
  refine aw_gI hK fw_c0 9 (by decide) rfl q235 (fun _ h9 => h9) dX0_level_5 h (fun v2 h => ?_)
  exact aw_iret hK dX0_level_8 h hF
theorem ct_X0_level {j0 : Nat} {L : LH} {r9 : Int32} {L9 : LH} {mc ms : Nat} (h : f_X0_level j0 L = some (r9, L9, mc, ms)) : fw_Cx yX0_level (ws_ yX0_level cX0_level 1 (some (.int))) 13 287 [aR (some j0)] L (some (aI r9)) L9 mc ms :=
  fun b1 b2 => ct_of (own := RX0) fw_ZX_ok (by decide +kernel) rfl (Nat.le_of_ble_eq_true rfl) (fun K hZ hK hF hini => w_X0_level_0 hK ⟨b1, b2, hZ⟩ hF h)
def f_X0_betterOf_68 (rec30 : Nat → Int32 → Int32 → Int32 → Int32 → Option Nat → Int32 → Int32 → LH → Rs Int32) (j0 : Nat) (x1 : Int32) (x2 : Int32) (x3 : Int32) (x4 : Int32) (rp5 : Option Nat) (x6 : Int32) (x7 : Int32) (L : LH) : Rs Int32 :=
  fw_nn rp5 fun j1 =>
  fw_rd 100 L j1 x2 fun v2 =>
  fw_wr 100 L j1 x2 (v2 + (nI 1)) fun L3 =>
  rec30 j0 x1 x2 x3 x4 (some j1) x6 x7 L3
def f_X0_betterOf_30 : Nat → Nat → Int32 → Int32 → Int32 → Int32 → Option Nat → Int32 → Int32 → LH → Rs Int32
  | 0, _, _, _, _, _, _, _, _, _ => none
  | n + 1, j0, x1, x2, x3, x4, rp5, x6, x7, L =>
    fw_nn rp5 fun j1 =>
    fw_rd 100 L j1 x2 fun v2 =>
    if (nI 3) ≤ v2 then (
      fw_wr 100 L j1 x2 x4 fun L3 =>
      if x3 = 0 then (
        some (x6, L3, 0, 0)
      ) else (
        fw_cl (f_X0_place x1 x7 L3) fun v5 L4 =>
        some (v5, L4, 0, 0)
      )
    ) else (
      fw_is 1 L j0 <|
      fw_cl (f_X0_find j0 L) fun _ L6 =>
      fw_is 1 L6 j0 <|
      fw_cl (f_X0_far j0 x1 L6) fun v8 L7 =>
      if x7 < v8 then (
        fw_rd 100 L7 j1 x2 fun v9 =>
        fw_is 1 L7 j0 <|
        fw_cl (f_X0_far j0 x1 L7) fun v11 L10 =>
        f_X0_betterOf_68 (f_X0_betterOf_30 n) j0 x1 x2 x3 x4 (some j1) v9 v11 L10
      ) else (
        f_X0_betterOf_68 (f_X0_betterOf_30 n) j0 x1 x2 x3 x4 (some j1) x6 x7 L7
      )
    )
def f_X0_betterOf (j0 : Nat) (x1 : Int32) (x2 : Int32) (x3 : Int32) (L : LH) : Rs Int32 :=
  fw_is 1 L j0 <|
  fw_cl (f_X0_callBy j0 x1 x2 L) fun v2 L1 =>
  fw_gR 1 L1 j0 2 fun r3 =>
  fw_nn r3 fun j4 =>
  fw_rq 107 L1 j4 x1 fun r5 =>
  fw_nn r5 fun j7 =>
  fw_gR 3 L1 j7 5 fun r6 =>
  fw_nn r6 fun j8 =>
  fw_wr 100 L1 j8 x2 (nI 0) fun L9 =>
  f_X0_betterOf_30 fw_fuel j0 x1 x2 x3 v2 (some j8) (-nI 1) (-nI 1) L9
set_option maxHeartbeats 4000000 in
set_option maxRecDepth 100000 in
theorem w_X0_betterOf_68 {K : Kx} {r9 : Int32} {L9 : LH} (hK : Ok K cX0_betterOf 9 RX0 13 287) (hZ : fw_isZ K) (hF : Fin K (some (.int)) (some (aI r9)) L9) {rec30 : Nat → Int32 → Int32 → Int32 → Int32 → Option Nat → Int32 → Int32 → LH → Rs Int32} (hrec30 : ∀ {j0 : Nat} {x1 : Int32} {x2 : Int32} {x3 : Int32} {x4 : Int32} {rp5 : Option Nat} {x6 : Int32} {x7 : Int32} {L : LH} {mc ms : Nat}, rec30 j0 x1 x2 x3 x4 rp5 x6 x7 L = some (r9, L9, mc, ms) → AW K L mc ms 30 [(0, aR (some j0)), (1, aI x1), (2, aI x2), (3, aI x3), (4, aI x4), (5, aR rp5), (6, aI x6), (7, aI x7)] []) {j0 : Nat} {x1 : Int32} {x2 : Int32} {x3 : Int32} {x4 : Int32} {rp5 : Option Nat} {x6 : Int32} {x7 : Int32} {L : LH} {mc ms : Nat} (h : f_X0_betterOf_68 rec30 j0 x1 x2 x3 x4 rp5 x6 x7 L = some (r9, L9, mc, ms)) : AW K L mc ms 68 [(0, aR (some j0)), (1, aI x1), (2, aI x2), (3, aI x3), (4, aI x4), (5, aR rp5), (6, aI x6), (7, aI x7)] [] := by
  unfold f_X0_betterOf_68 at h
  refine aw_aload hK 5 dX0_betterOf_68 rfl ?_
  refine aw_iload_n hK 2 dX0_betterOf_70 rfl rfl ?_
  refine aw_dup2 hK dX0_betterOf_71 rfl rfl ?_
  obtain _ | j1 := rp5
  · exact (fw_nn_no h).elim
  replace h := fw_nn_so h
  refine aw_iald hK dX0_betterOf_72 h (fun v2 h => ?_)
  refine aw_iconst (v := (nI 1)) hK dX0_betterOf_73 rfl ?_
  refine aw_iadd hK dX0_betterOf_74 ?_
  refine aw_iast hK dX0_betterOf_75 h (fun L3 h => ?_)
  refine aw_goto (tgt := 30) hK dX0_betterOf_76 (by decide) ?_
  exact hrec30 h
set_option maxHeartbeats 4000000 in
set_option maxRecDepth 100000 in
theorem w_X0_betterOf_30 {K : Kx} {r9 : Int32} {L9 : LH} (hK : Ok K cX0_betterOf 9 RX0 13 287) (hZ : fw_isZ K) (hF : Fin K (some (.int)) (some (aI r9)) L9) : ∀ {n : Nat} {j0 : Nat} {x1 : Int32} {x2 : Int32} {x3 : Int32} {x4 : Int32} {rp5 : Option Nat} {x6 : Int32} {x7 : Int32} {L : LH} {mc ms : Nat}, f_X0_betterOf_30 n j0 x1 x2 x3 x4 rp5 x6 x7 L = some (r9, L9, mc, ms) → AW K L mc ms 30 [(0, aR (some j0)), (1, aI x1), (2, aI x2), (3, aI x3), (4, aI x4), (5, aR rp5), (6, aI x6), (7, aI x7)] [] := by
  intro n
  induction n with
  | zero =>
    intro j0 x1 x2 x3 x4 rp5 x6 x7 L mc ms h
    have h : (none : Rs Int32) = some (r9, L9, mc, ms) := h
    cases h
  | succ n ih =>
    intro j0 x1 x2 x3 x4 rp5 x6 x7 L mc ms h
    unfold f_X0_betterOf_30 at h
    refine aw_aload hK 5 dX0_betterOf_30 rfl ?_
    refine aw_iload_n hK 2 dX0_betterOf_32 rfl rfl ?_
    obtain _ | j1 := rp5
    · exact (fw_nn_no h).elim
    replace h := fw_nn_so h
    refine aw_iald hK dX0_betterOf_33 h (fun v2 h => ?_)
    refine aw_iconst (v := (nI 3)) hK dX0_betterOf_34 rfl ?_
    refine aw_icmp_ge (tgt := 79) hK dX0_betterOf_35 (by decide) h (fun h => ?_) (fun h => ?_)
    · refine aw_aload hK 5 dX0_betterOf_79 rfl ?_
      refine aw_iload_n hK 2 dX0_betterOf_81 rfl rfl ?_
      refine aw_iload hK 4 dX0_betterOf_82 rfl ?_
      refine aw_iast hK dX0_betterOf_84 h (fun L3 h => ?_)
      refine aw_goto (tgt := 99) hK dX0_betterOf_85 (by decide) ?_
      refine aw_iload_n hK 3 dX0_betterOf_99 rfl rfl ?_
      refine aw_if_ne (tgt := 108) hK dX0_betterOf_100 (by decide) h (fun h => ?_) (fun h => ?_)
      · refine aw_iload_n hK 1 dX0_betterOf_108 rfl rfl ?_
        refine aw_iload hK 7 dX0_betterOf_109 rfl ?_
        refine aw_callS_i (n := 2) hK (fun _ _ _ _ q => fw_czx hZ (ct_X0_place q)) (lw_S q935 q936 q94 q937) (by decide +kernel) (by decide) rfl rfl (Nat.le_of_ble_eq_true rfl) dX0_betterOf_111 h (fun v5 L4 _ _ h => ?_)
        exact aw_iret hK dX0_betterOf_114 h hF
      · refine aw_iload hK 6 dX0_betterOf_103 rfl ?_
        refine aw_goto (tgt := 114) hK dX0_betterOf_105 (by decide) ?_
        exact aw_iret hK dX0_betterOf_114 h hF
    · refine aw_aload_n hK 0 dX0_betterOf_38 rfl rfl ?_
      obtain ⟨hj, h⟩ := fw_is_h h
      refine aw_callV_v (n := 0) hK fw_c0 hj (fun _ _ _ _ q => fw_czx hZ (ct_X0_find q)) (lw_V q781 q783 qs9 q94 q784) (by decide +kernel) (by decide) rfl rfl (Nat.le_of_ble_eq_true rfl) dX0_betterOf_39 h (fun _ L6 _ _ h => ?_)
      refine aw_aload_n hK 0 dX0_betterOf_42 rfl rfl ?_
      refine aw_iload_n hK 1 dX0_betterOf_43 rfl rfl ?_
      obtain ⟨hj, h⟩ := fw_is_h h
      refine aw_callV_i (n := 1) hK fw_c0 hj (fun _ _ _ _ q => fw_czx hZ (ct_X0_far q)) (lw_V q931 q933 qs25 q94 q934) (by decide +kernel) (by decide) rfl rfl (Nat.le_of_ble_eq_true rfl) dX0_betterOf_44 h (fun v8 L7 _ _ h => ?_)
      refine aw_iload hK 7 dX0_betterOf_47 rfl ?_
      refine aw_icmp_gt (tgt := 55) hK dX0_betterOf_49 (by decide) h (fun h => ?_) (fun h => ?_)
      · refine aw_aload hK 5 dX0_betterOf_55 rfl ?_
        refine aw_iload_n hK 2 dX0_betterOf_57 rfl rfl ?_
        refine aw_iald hK dX0_betterOf_58 h (fun v9 h => ?_)
        refine aw_istore (lv' := [(6, aI v9), (0, aR (some j0)), (1, aI x1), (2, aI x2), (3, aI x3), (4, aI x4), (5, aR (some j1)), (7, aI x7)]) hK dX0_betterOf_59 (by decide) rfl ?_
        refine aw_aload_n hK 1 dX0_betterOf_61 rfl rfl ?_
        refine aw_iload_n hK 2 dX0_betterOf_62 rfl rfl ?_
        obtain ⟨hj, h⟩ := fw_is_h h
        refine aw_callV_i (n := 1) hK fw_c0 hj (fun _ _ _ _ q => fw_czx hZ (ct_X0_far q)) (lw_V q931 q933 qs25 q94 q934) (by decide +kernel) (by decide) rfl rfl (Nat.le_of_ble_eq_true rfl) dX0_betterOf_63 h (fun v11 L10 _ _ h => ?_)
        refine aw_istore (lv' := [(7, aI v11), (6, aI v9), (0, aR (some j0)), (1, aI x1), (2, aI x2), (3, aI x3), (4, aI x4), (5, aR (some j1))]) hK dX0_betterOf_66 (by decide) rfl ?_
        exact aw_sub [2, 3, 4, 5, 6, 7, 1, 0] rfl (w_X0_betterOf_68 hK hZ hF (fun h => ih h) h)
      · refine aw_goto (tgt := 68) hK dX0_betterOf_52 (by decide) ?_
        exact w_X0_betterOf_68 hK hZ hF (fun h => ih h) h
set_option maxHeartbeats 4000000 in
set_option maxRecDepth 100000 in
theorem w_X0_betterOf_0 {K : Kx} {r9 : Int32} {L9 : LH} (hK : Ok K cX0_betterOf 9 RX0 13 287) (hZ : fw_isZ K) (hF : Fin K (some (.int)) (some (aI r9)) L9) {j0 : Nat} {x1 : Int32} {x2 : Int32} {x3 : Int32} {L : LH} {mc ms : Nat} (h : f_X0_betterOf j0 x1 x2 x3 L = some (r9, L9, mc, ms)) : AW K L mc ms 0 [(0, aR (some j0)), (1, aI x1), (2, aI x2), (3, aI x3)] [] := by
  unfold f_X0_betterOf at h
  refine aw_aload_n hK 0 dX0_betterOf_0 rfl rfl ?_
  refine aw_iload_n hK 1 dX0_betterOf_1 rfl rfl ?_
  refine aw_iload_n hK 2 dX0_betterOf_2 rfl rfl ?_
  obtain ⟨hj, h⟩ := fw_is_h h
  refine aw_callV_i (n := 2) hK fw_c0 hj (fun _ _ _ _ q => fw_czx hZ (ct_X0_callBy q)) (lw_V q714 q716 qs6 q94 q717) (by decide +kernel) (by decide) rfl rfl (Nat.le_of_ble_eq_true rfl) dX0_betterOf_3 h (fun v2 L1 _ _ h => ?_)
  refine aw_istore (lv' := [(4, aI v2), (0, aR (some j0)), (1, aI x1), (2, aI x2), (3, aI x3)]) hK dX0_betterOf_6 (by decide) rfl ?_
  refine aw_aload_n hK 1 dX0_betterOf_8 rfl rfl ?_
  refine aw_gR hK fw_c0 2 (by decide) rfl q228 (fun _ h9 => h9) dX0_betterOf_9 h (fun r3 h => ?_)
  refine aw_iload_n hK 2 dX0_betterOf_12 rfl rfl ?_
  obtain _ | j4 := r3
  · exact (fw_nn_no h).elim
  replace h := fw_nn_so h
  refine aw_aald hK 7 (by decide) rfl dX0_betterOf_13 h (fun r5 h => ?_)
  obtain _ | j7 := r5
  · exact (fw_nn_no h).elim
  replace h := fw_nn_so h
  refine aw_gR hK fw_c2 5 (by decide) rfl q195 (fun _ h9 => h9) dX0_betterOf_14 h (fun r6 h => ?_)
  refine aw_astore (lv' := [(5, aR r6), (4, aI v2), (0, aR (some j0)), (1, aI x1), (2, aI x2), (3, aI x3)]) hK dX0_betterOf_17 (by decide) rfl ?_
  refine aw_iconst (v := (-nI 1)) hK dX0_betterOf_19 rfl ?_
  refine aw_istore (lv' := [(6, aI (-nI 1)), (5, aR r6), (4, aI v2), (0, aR (some j0)), (1, aI x1), (2, aI x2), (3, aI x3)]) hK dX0_betterOf_20 (by decide) rfl ?_
  refine aw_iconst (v := (-nI 1)) hK dX0_betterOf_22 rfl ?_
  refine aw_istore (lv' := [(7, aI (-nI 1)), (6, aI (-nI 1)), (5, aR r6), (4, aI v2), (0, aR (some j0)), (1, aI x1), (2, aI x2), (3, aI x3)]) hK dX0_betterOf_23 (by decide) rfl ?_
  refine aw_aload hK 2 dX0_betterOf_25 rfl ?_
  refine aw_iload_n hK 6 dX0_betterOf_27 rfl rfl ?_
  refine aw_iconst (v := (nI 0)) hK dX0_betterOf_28 rfl ?_
  obtain _ | j8 := r6
  · exact (fw_nn_no h).elim
  replace h := fw_nn_so h
  refine aw_iast hK dX0_betterOf_29 h (fun L9 h => ?_)
  exact aw_sub [4, 5, 6, 7, 3, 2, 1, 0] rfl (w_X0_betterOf_30 hK hZ hF h)
theorem ct_X0_betterOf {j0 : Nat} {x1 : Int32} {x2 : Int32} {x3 : Int32} {L : LH} {r9 : Int32} {L9 : LH} {mc ms : Nat} (h : f_X0_betterOf j0 x1 x2 x3 L = some (r9, L9, mc, ms)) : fw_Cx yX0_betterOf (wsW_ yX0_betterOf cX0_betterOf 9 (some (.int)) [(25, 79, 88, 0), (88, 90, 88, 0)]) 13 287 [aR (some j0), aI x1, aI x2, aI x3] L (some (aI r9)) L9 mc ms :=
  fun b1 b2 => ct_ofH (own := RX0) fw_ZX_ok (by decide +kernel) rfl (Nat.le_of_ble_eq_true rfl) (fun K hZ hK hF hini => w_X0_betterOf_0 hK ⟨b1, b2, hZ⟩ hF h)
def f_X0_swapOf_105 (rec19 : Nat → Int32 → Int32 → Int32 → Int32 → Int32 → Int32 → LH → Rs Int32) (j0 : Nat) (x1 : Int32) (x2 : Int32) (x3 : Int32) (x4 : Int32) (x5 : Int32) (x6 : Int32) (L : LH) : Rs Int32 :=
  rec19 j0 x1 x2 x3 x4 x5 (x6 + (nI 1)) L
def f_X0_swapOf_19 : Nat → Nat → Int32 → Int32 → Int32 → Int32 → Int32 → Int32 → LH → Rs Int32
  | 0, _, _, _, _, _, _, _, _ => none
  | n + 1, j0, x1, x2, x3, x4, x5, x6, L =>
    if (x3 * x3) ≤ x6 then (
      fw_pI 1 L j0 18 (-nI 1) fun L1 =>
      if x4 = (-nI 1) then (
        some ((-nI 1), L1, 0, 0)
      ) else (
        if x2 = 0 then (
          some ((x4 / (nI 16)), L1, 0, 0)
        ) else (
          if x2 = (nI 1) then (
            some ((x4 - x4 / (nI 16) * (nI 16)), L1, 0, 0)
          ) else (
            fw_cl (f_X0_place x1 x5 L1) fun v3 L2 =>
            some (v3, L2, 0, 0)
          )
        )
      )
    ) else (
      fw_nz x3 <|
      fw_nz x3 <|
      if (x6 / x3) < (x6 - x6 / x3 * x3) then (
        fw_nz x3 <|
        fw_pI 1 L j0 18 (((nI 8) * x1) + (x6 / x3)) fun L4 =>
        fw_nz x3 <|
        fw_pI 1 L4 j0 19 (((nI 8) * x1) + (x6 - x6 / x3 * x3)) fun L5 =>
        fw_is 1 L5 j0 <|
        fw_cl (f_X0_find j0 L5) fun _ L6 =>
        fw_is 1 L6 j0 <|
        fw_cl (f_X0_far j0 x1 L6) fun v8 L7 =>
        if x5 < v8 then (
          fw_gI 1 L7 j0 18 fun v9 =>
          fw_gI 1 L7 j0 19 fun v10 =>
          fw_is 1 L7 j0 <|
          fw_cl (f_X0_far j0 x1 L7) fun v12 L11 =>
          f_X0_swapOf_105 (f_X0_swapOf_19 n) j0 x1 x2 x3 (((nI 16) * v9) + v10) v12 x6 L11
        ) else (
          f_X0_swapOf_105 (f_X0_swapOf_19 n) j0 x1 x2 x3 x4 x5 x6 L7
        )
      ) else (
        f_X0_swapOf_105 (f_X0_swapOf_19 n) j0 x1 x2 x3 x4 x5 x6 L
      )
    )
def f_X0_swapOf (j0 : Nat) (x1 : Int32) (x2 : Int32) (L : LH) : Rs Int32 :=
  fw_gR 1 L j0 1 fun r1 =>
  fw_nn r1 fun j2 =>
  fw_rq 106 L j2 x1 fun r3 =>
  fw_nn r3 fun j6 =>
  fw_is 2 L j6 <|
  fw_cl (f_X2_many j6 L) fun v5 L4 =>
  f_X0_swapOf_19 fw_fuel j0 x1 x2 v5 (-nI 1) (-nI 1) (nI 0) L4
set_option maxHeartbeats 4000000 in
set_option maxRecDepth 100000 in
theorem w_X0_swapOf_105 {K : Kx} {r9 : Int32} {L9 : LH} (hK : Ok K cX0_swapOf 8 RX0 13 287) (hZ : fw_isZ K) (hF : Fin K (some (.int)) (some (aI r9)) L9) {rec19 : Nat → Int32 → Int32 → Int32 → Int32 → Int32 → Int32 → LH → Rs Int32} (hrec19 : ∀ {j0 : Nat} {x1 : Int32} {x2 : Int32} {x3 : Int32} {x4 : Int32} {x5 : Int32} {x6 : Int32} {L : LH} {mc ms : Nat}, rec19 j0 x1 x2 x3 x4 x5 x6 L = some (r9, L9, mc, ms) → AW K L mc ms 19 [(0, aR (some j0)), (1, aI x1), (2, aI x2), (3, aI x3), (4, aI x4), (5, aI x5), (6, aI x6)] []) {j0 : Nat} {x1 : Int32} {x2 : Int32} {x3 : Int32} {x4 : Int32} {x5 : Int32} {x6 : Int32} {L : LH} {mc ms : Nat} (h : f_X0_swapOf_105 rec19 j0 x1 x2 x3 x4 x5 x6 L = some (r9, L9, mc, ms)) : AW K L mc ms 105 [(0, aR (some j0)), (1, aI x1), (2, aI x2), (3, aI x3), (4, aI x4), (5, aI x5), (6, aI x6)] [] := by
  unfold f_X0_swapOf_105 at h
  refine aw_iinc (v := (x6 + (nI 1))) (lv' := [(6, aI (x6 + (nI 1))), (0, aR (some j0)), (1, aI x1), (2, aI x2), (3, aI x3), (4, aI x4), (5, aI x5)]) hK 6 dX0_swapOf_105 rfl rfl (by decide) rfl ?_
  refine aw_goto (tgt := 19) hK dX0_swapOf_108 (by decide) ?_
  exact aw_sub [1, 2, 3, 4, 5, 6, 0] rfl (hrec19 h)
set_option maxHeartbeats 4000000 in
set_option maxRecDepth 100000 in
theorem w_X0_swapOf_19 {K : Kx} {r9 : Int32} {L9 : LH} (hK : Ok K cX0_swapOf 8 RX0 13 287) (hZ : fw_isZ K) (hF : Fin K (some (.int)) (some (aI r9)) L9) : ∀ {n : Nat} {j0 : Nat} {x1 : Int32} {x2 : Int32} {x3 : Int32} {x4 : Int32} {x5 : Int32} {x6 : Int32} {L : LH} {mc ms : Nat}, f_X0_swapOf_19 n j0 x1 x2 x3 x4 x5 x6 L = some (r9, L9, mc, ms) → AW K L mc ms 19 [(0, aR (some j0)), (1, aI x1), (2, aI x2), (3, aI x3), (4, aI x4), (5, aI x5), (6, aI x6)] [] := by
  intro n
  induction n with
  | zero =>
    intro j0 x1 x2 x3 x4 x5 x6 L mc ms h
    have h : (none : Rs Int32) = some (r9, L9, mc, ms) := h
    cases h
  | succ n ih =>
    intro j0 x1 x2 x3 x4 x5 x6 L mc ms h
    unfold f_X0_swapOf_19 at h
    refine aw_iload hK 6 dX0_swapOf_19 rfl ?_
    refine aw_iload_n hK 3 dX0_swapOf_21 rfl rfl ?_
    refine aw_iload_n hK 3 dX0_swapOf_22 rfl rfl ?_
    refine aw_imul hK dX0_swapOf_23 ?_
    refine aw_icmp_ge (tgt := 111) hK dX0_swapOf_24 (by decide) h (fun h => ?_) (fun h => ?_)
    · refine aw_aload_n hK 0 dX0_swapOf_111 rfl rfl ?_
      refine aw_iconst (v := (-nI 1)) hK dX0_swapOf_112 rfl ?_
      refine aw_pI hK fw_c0 18 (by decide) rfl q244 (fun _ h9 => h9) rfl rfl rfl dX0_swapOf_113 h (fun L1 h => ?_)
      refine aw_goto (tgt := 129) hK dX0_swapOf_116 (by decide) ?_
      refine aw_iload hK 4 dX0_swapOf_129 rfl ?_
      refine aw_iconst (v := (-nI 1)) hK dX0_swapOf_131 rfl ?_
      refine aw_icmp_ne (tgt := 139) hK dX0_swapOf_132 (by decide) h (fun h => ?_) (fun h => ?_)
      · refine aw_iload_n hK 2 dX0_swapOf_139 rfl rfl ?_
        refine aw_if_ne (tgt := 151) hK dX0_swapOf_140 (by decide) h (fun h => ?_) (fun h => ?_)
        · refine aw_iload_n hK 2 dX0_swapOf_151 rfl rfl ?_
          refine aw_iconst (v := (nI 1)) hK dX0_swapOf_152 rfl ?_
          refine aw_icmp_ne (tgt := 164) hK dX0_swapOf_153 (by decide) h (fun h => ?_) (fun h => ?_)
          · refine aw_iload_n hK 1 dX0_swapOf_164 rfl rfl ?_
            refine aw_iload hK 5 dX0_swapOf_165 rfl ?_
            refine aw_callS_i (n := 2) hK (fun _ _ _ _ q => fw_czx hZ (ct_X0_place q)) (lw_S q935 q936 q94 q937) (by decide +kernel) (by decide) rfl rfl (Nat.le_of_ble_eq_true rfl) dX0_swapOf_167 h (fun v3 L2 _ _ h => ?_)
            exact aw_iret hK dX0_swapOf_170 h hF
          · refine aw_iload hK 4 dX0_swapOf_156 rfl ?_
            refine aw_bipush (v := (nI 16)) hK dX0_swapOf_158 rfl ?_
            refine aw_irem hK dX0_swapOf_160 (by decide) ?_
            refine aw_goto (tgt := 170) hK dX0_swapOf_161 (by decide) ?_
            exact aw_iret hK dX0_swapOf_170 h hF
        · refine aw_iload hK 4 dX0_swapOf_143 rfl ?_
          refine aw_bipush (v := (nI 16)) hK dX0_swapOf_145 rfl ?_
          refine aw_idiv hK dX0_swapOf_147 (by decide) ?_
          refine aw_goto (tgt := 170) hK dX0_swapOf_148 (by decide) ?_
          exact aw_iret hK dX0_swapOf_170 h hF
      · refine aw_iconst (v := (-nI 1)) hK dX0_swapOf_135 rfl ?_
        refine aw_goto (tgt := 170) hK dX0_swapOf_136 (by decide) ?_
        exact aw_iret hK dX0_swapOf_170 h hF
    · refine aw_iload hK 6 dX0_swapOf_27 rfl ?_
      refine aw_iload_n hK 3 dX0_swapOf_29 rfl rfl ?_
      obtain ⟨hne, h⟩ := fw_nz_h h
      refine aw_idiv hK dX0_swapOf_30 hne ?_
      refine aw_iload hK 6 dX0_swapOf_31 rfl ?_
      refine aw_iload_n hK 3 dX0_swapOf_33 rfl rfl ?_
      obtain ⟨hne, h⟩ := fw_nz_h h
      refine aw_irem hK dX0_swapOf_34 hne ?_
      refine aw_icmp_lt (tgt := 41) hK dX0_swapOf_35 (by decide) h (fun h => ?_) (fun h => ?_)
      · refine aw_aload_n hK 0 dX0_swapOf_41 rfl rfl ?_
        refine aw_bipush (v := (nI 8)) hK dX0_swapOf_42 rfl ?_
        refine aw_iload_n hK 1 dX0_swapOf_44 rfl rfl ?_
        refine aw_imul hK dX0_swapOf_45 ?_
        refine aw_iload hK 6 dX0_swapOf_46 rfl ?_
        refine aw_iload_n hK 3 dX0_swapOf_48 rfl rfl ?_
        obtain ⟨hne, h⟩ := fw_nz_h h
        refine aw_idiv hK dX0_swapOf_49 hne ?_
        refine aw_iadd hK dX0_swapOf_50 ?_
        refine aw_pI hK fw_c0 18 (by decide) rfl q244 (fun _ h9 => h9) rfl rfl rfl dX0_swapOf_51 h (fun L4 h => ?_)
        refine aw_aload_n hK 0 dX0_swapOf_54 rfl rfl ?_
        refine aw_bipush (v := (nI 8)) hK dX0_swapOf_55 rfl ?_
        refine aw_iload_n hK 1 dX0_swapOf_57 rfl rfl ?_
        refine aw_imul hK dX0_swapOf_58 ?_
        refine aw_iload hK 6 dX0_swapOf_59 rfl ?_
        refine aw_iload_n hK 3 dX0_swapOf_61 rfl rfl ?_
        obtain ⟨hne, h⟩ := fw_nz_h h
        refine aw_irem hK dX0_swapOf_62 hne ?_
        refine aw_iadd hK dX0_swapOf_63 ?_
        refine aw_pI hK fw_c0 19 (by decide) rfl q245 (fun _ h9 => h9) rfl rfl rfl dX0_swapOf_64 h (fun L5 h => ?_)
        refine aw_aload_n hK 0 dX0_swapOf_67 rfl rfl ?_
        obtain ⟨hj, h⟩ := fw_is_h h
        refine aw_callV_v (n := 0) hK fw_c0 hj (fun _ _ _ _ q => fw_czx hZ (ct_X0_find q)) (lw_V q781 q783 qs9 q94 q784) (by decide +kernel) (by decide) rfl rfl (Nat.le_of_ble_eq_true rfl) dX0_swapOf_68 h (fun _ L6 _ _ h => ?_)
        refine aw_aload_n hK 0 dX0_swapOf_71 rfl rfl ?_
        refine aw_iload_n hK 1 dX0_swapOf_72 rfl rfl ?_
        obtain ⟨hj, h⟩ := fw_is_h h
        refine aw_callV_i (n := 1) hK fw_c0 hj (fun _ _ _ _ q => fw_czx hZ (ct_X0_far q)) (lw_V q931 q933 qs25 q94 q934) (by decide +kernel) (by decide) rfl rfl (Nat.le_of_ble_eq_true rfl) dX0_swapOf_73 h (fun v8 L7 _ _ h => ?_)
        refine aw_iload hK 5 dX0_swapOf_76 rfl ?_
        refine aw_icmp_gt (tgt := 84) hK dX0_swapOf_78 (by decide) h (fun h => ?_) (fun h => ?_)
        · refine aw_bipush (v := (nI 16)) hK dX0_swapOf_84 rfl ?_
          refine aw_aload_n hK 0 dX0_swapOf_86 rfl rfl ?_
          refine aw_gI hK fw_c0 18 (by decide) rfl q244 (fun _ h9 => h9) dX0_swapOf_87 h (fun v9 h => ?_)
          refine aw_imul hK dX0_swapOf_90 ?_
          refine aw_aload_n hK 0 dX0_swapOf_91 rfl rfl ?_
          refine aw_gI hK fw_c0 19 (by decide) rfl q245 (fun _ h9 => h9) dX0_swapOf_92 h (fun v10 h => ?_)
          refine aw_iadd hK dX0_swapOf_95 ?_
          refine aw_istore (lv' := [(4, aI (((nI 16) * v9) + v10)), (0, aR (some j0)), (1, aI x1), (2, aI x2), (3, aI x3), (5, aI x5), (6, aI x6)]) hK dX0_swapOf_96 (by decide) rfl ?_
          refine aw_aload_n hK 1 dX0_swapOf_98 rfl rfl ?_
          refine aw_iload_n hK 2 dX0_swapOf_99 rfl rfl ?_
          obtain ⟨hj, h⟩ := fw_is_h h
          refine aw_callV_i (n := 1) hK fw_c0 hj (fun _ _ _ _ q => fw_czx hZ (ct_X0_far q)) (lw_V q931 q933 qs25 q94 q934) (by decide +kernel) (by decide) rfl rfl (Nat.le_of_ble_eq_true rfl) dX0_swapOf_100 h (fun v12 L11 _ _ h => ?_)
          refine aw_istore (lv' := [(5, aI v12), (4, aI (((nI 16) * v9) + v10)), (0, aR (some j0)), (1, aI x1), (2, aI x2), (3, aI x3), (6, aI x6)]) hK dX0_swapOf_103 (by decide) rfl ?_
          exact aw_sub [2, 3, 4, 5, 1, 0, 6] rfl (w_X0_swapOf_105 hK hZ hF (fun h => ih h) h)
        · refine aw_goto (tgt := 105) hK dX0_swapOf_81 (by decide) ?_
          exact w_X0_swapOf_105 hK hZ hF (fun h => ih h) h
      · refine aw_goto (tgt := 105) hK dX0_swapOf_38 (by decide) ?_
        exact w_X0_swapOf_105 hK hZ hF (fun h => ih h) h
set_option maxHeartbeats 4000000 in
set_option maxRecDepth 100000 in
theorem w_X0_swapOf_0 {K : Kx} {r9 : Int32} {L9 : LH} (hK : Ok K cX0_swapOf 8 RX0 13 287) (hZ : fw_isZ K) (hF : Fin K (some (.int)) (some (aI r9)) L9) {j0 : Nat} {x1 : Int32} {x2 : Int32} {L : LH} {mc ms : Nat} (h : f_X0_swapOf j0 x1 x2 L = some (r9, L9, mc, ms)) : AW K L mc ms 0 [(0, aR (some j0)), (1, aI x1), (2, aI x2)] [] := by
  unfold f_X0_swapOf at h
  refine aw_aload_n hK 0 dX0_swapOf_0 rfl rfl ?_
  refine aw_gR hK fw_c0 1 (by decide) rfl q227 (fun _ h9 => h9) dX0_swapOf_1 h (fun r1 h => ?_)
  refine aw_iload_n hK 1 dX0_swapOf_4 rfl rfl ?_
  obtain _ | j2 := r1
  · exact (fw_nn_no h).elim
  replace h := fw_nn_so h
  refine aw_aald hK 6 (by decide) rfl dX0_swapOf_5 h (fun r3 h => ?_)
  obtain _ | j6 := r3
  · exact (fw_nn_no h).elim
  replace h := fw_nn_so h
  obtain ⟨hj, h⟩ := fw_is_h h
  refine aw_callV_i (n := 0) hK fw_c1 hj (fun _ _ _ _ q => fw_czx hZ (ct_X2_many q)) (lw_V q656 q657 q658 q96 q659) (by decide +kernel) (by decide) rfl rfl (Nat.le_of_ble_eq_true rfl) dX0_swapOf_6 h (fun v5 L4 _ _ h => ?_)
  refine aw_istore_n (lv' := [(3, aI v5), (0, aR (some j0)), (1, aI x1), (2, aI x2)]) hK dX0_swapOf_9 rfl (by decide) rfl ?_
  refine aw_iconst (v := (-nI 1)) hK dX0_swapOf_10 rfl ?_
  refine aw_istore (lv' := [(4, aI (-nI 1)), (3, aI v5), (0, aR (some j0)), (1, aI x1), (2, aI x2)]) hK dX0_swapOf_11 (by decide) rfl ?_
  refine aw_iconst (v := (-nI 1)) hK dX0_swapOf_13 rfl ?_
  refine aw_istore (lv' := [(5, aI (-nI 1)), (4, aI (-nI 1)), (3, aI v5), (0, aR (some j0)), (1, aI x1), (2, aI x2)]) hK dX0_swapOf_14 (by decide) rfl ?_
  refine aw_iconst (v := (nI 0)) hK dX0_swapOf_16 rfl ?_
  refine aw_istore (lv' := [(6, aI (nI 0)), (5, aI (-nI 1)), (4, aI (-nI 1)), (3, aI v5), (0, aR (some j0)), (1, aI x1), (2, aI x2)]) hK dX0_swapOf_17 (by decide) rfl ?_
  exact aw_sub [4, 5, 6, 3, 2, 1, 0] rfl (w_X0_swapOf_19 hK hZ hF h)
theorem ct_X0_swapOf {j0 : Nat} {x1 : Int32} {x2 : Int32} {L : LH} {r9 : Int32} {L9 : LH} {mc ms : Nat} (h : f_X0_swapOf j0 x1 x2 L = some (r9, L9, mc, ms)) : fw_Cx yX0_swapOf (wsW_ yX0_swapOf cX0_swapOf 8 (some (.int)) [(16, 111, 119, 0), (119, 121, 119, 0)]) 13 287 [aR (some j0), aI x1, aI x2] L (some (aI r9)) L9 mc ms :=
  fun b1 b2 => ct_ofH (own := RX0) fw_ZX_ok (by decide +kernel) rfl (Nat.le_of_ble_eq_true rfl) (fun K hZ hK hF hini => w_X0_swapOf_0 hK ⟨b1, b2, hZ⟩ hF h)
def f_X0_outOf_62 (rec8 : Nat → Int32 → Int32 → Int32 → Int32 → Int32 → LH → Rs Int32) (j0 : Nat) (x1 : Int32) (x2 : Int32) (x3 : Int32) (x4 : Int32) (x5 : Int32) (L : LH) : Rs Int32 :=
  rec8 j0 x1 x2 x3 x4 (x5 + (nI 1)) L
def f_X0_outOf_95 (x3 : Int32) (L : LH) : Rs Int32 :=
  some (x3, L, 0, 0)
def f_X0_outOf_8 : Nat → Nat → Int32 → Int32 → Int32 → Int32 → Int32 → LH → Rs Int32
  | 0, _, _, _, _, _, _, _ => none
  | n + 1, j0, x1, x2, x3, x4, x5, L =>
    fw_gR 1 L j0 1 fun r1 =>
    fw_nn r1 fun j2 =>
    fw_rq 106 L j2 x1 fun r3 =>
    fw_nn r3 fun j6 =>
    fw_is 2 L j6 <|
    fw_cl (f_X2_many j6 L) fun v5 L4 =>
    if v5 ≤ x5 then (
      fw_pI 1 L4 j0 17 (-nI 1) fun L7 =>
      if x3 = (-nI 1) then (
        f_X0_outOf_95 x3 L7
      ) else (
        if x2 = 0 then (
          f_X0_outOf_95 x3 L7
        ) else (
          fw_cl (f_X0_place x1 x4 L7) fun v9 L8 =>
          some (v9, L8, 0, 0)
        )
      )
    ) else (
      fw_pI 1 L4 j0 17 (((nI 8) * x1) + x5) fun L10 =>
      fw_is 1 L10 j0 <|
      fw_cl (f_X0_find j0 L10) fun _ L11 =>
      fw_is 1 L11 j0 <|
      fw_cl (f_X0_far j0 x1 L11) fun v13 L12 =>
      if x4 < v13 then (
        fw_gI 1 L12 j0 17 fun v14 =>
        fw_is 1 L12 j0 <|
        fw_cl (f_X0_far j0 x1 L12) fun v16 L15 =>
        f_X0_outOf_62 (f_X0_outOf_8 n) j0 x1 x2 v14 v16 x5 L15
      ) else (
        f_X0_outOf_62 (f_X0_outOf_8 n) j0 x1 x2 x3 x4 x5 L12
      )
    )
def f_X0_outOf (j0 : Nat) (x1 : Int32) (x2 : Int32) (L : LH) : Rs Int32 :=
  f_X0_outOf_8 fw_fuel j0 x1 x2 (-nI 1) (-nI 1) (nI 0) L
set_option maxHeartbeats 4000000 in
set_option maxRecDepth 100000 in
theorem w_X0_outOf_62 {K : Kx} {r9 : Int32} {L9 : LH} (hK : Ok K cX0_outOf 7 RX0 13 287) (hZ : fw_isZ K) (hF : Fin K (some (.int)) (some (aI r9)) L9) {rec8 : Nat → Int32 → Int32 → Int32 → Int32 → Int32 → LH → Rs Int32} (hrec8 : ∀ {j0 : Nat} {x1 : Int32} {x2 : Int32} {x3 : Int32} {x4 : Int32} {x5 : Int32} {L : LH} {mc ms : Nat}, rec8 j0 x1 x2 x3 x4 x5 L = some (r9, L9, mc, ms) → AW K L mc ms 8 [(0, aR (some j0)), (1, aI x1), (2, aI x2), (3, aI x3), (4, aI x4), (5, aI x5)] []) {j0 : Nat} {x1 : Int32} {x2 : Int32} {x3 : Int32} {x4 : Int32} {x5 : Int32} {L : LH} {mc ms : Nat} (h : f_X0_outOf_62 rec8 j0 x1 x2 x3 x4 x5 L = some (r9, L9, mc, ms)) : AW K L mc ms 62 [(0, aR (some j0)), (1, aI x1), (2, aI x2), (3, aI x3), (4, aI x4), (5, aI x5)] [] := by
  unfold f_X0_outOf_62 at h
  refine aw_iinc (v := (x5 + (nI 1))) (lv' := [(5, aI (x5 + (nI 1))), (0, aR (some j0)), (1, aI x1), (2, aI x2), (3, aI x3), (4, aI x4)]) hK 5 dX0_outOf_62 rfl rfl (by decide) rfl ?_
  refine aw_goto (tgt := 8) hK dX0_outOf_65 (by decide) ?_
  exact aw_sub [1, 2, 3, 4, 5, 0] rfl (hrec8 h)
set_option maxHeartbeats 4000000 in
set_option maxRecDepth 100000 in
theorem w_X0_outOf_95 {K : Kx} {r9 : Int32} {L9 : LH} (hK : Ok K cX0_outOf 7 RX0 13 287) (hZ : fw_isZ K) (hF : Fin K (some (.int)) (some (aI r9)) L9) {x3 : Int32} {L : LH} {mc ms : Nat} (h : f_X0_outOf_95 x3 L = some (r9, L9, mc, ms)) : AW K L mc ms 95 [(3, aI x3)] [] := by
  unfold f_X0_outOf_95 at h
  refine aw_iload_n hK 0 dX0_outOf_95 rfl rfl ?_
  refine aw_goto (tgt := 105) hK dX0_outOf_96 (by decide) ?_
  exact aw_iret hK dX0_outOf_105 h hF
set_option maxHeartbeats 4000000 in
set_option maxRecDepth 100000 in
theorem w_X0_outOf_8 {K : Kx} {r9 : Int32} {L9 : LH} (hK : Ok K cX0_outOf 7 RX0 13 287) (hZ : fw_isZ K) (hF : Fin K (some (.int)) (some (aI r9)) L9) : ∀ {n : Nat} {j0 : Nat} {x1 : Int32} {x2 : Int32} {x3 : Int32} {x4 : Int32} {x5 : Int32} {L : LH} {mc ms : Nat}, f_X0_outOf_8 n j0 x1 x2 x3 x4 x5 L = some (r9, L9, mc, ms) → AW K L mc ms 8 [(0, aR (some j0)), (1, aI x1), (2, aI x2), (3, aI x3), (4, aI x4), (5, aI x5)] [] := by
  intro n
  induction n with
  | zero =>
    intro j0 x1 x2 x3 x4 x5 L mc ms h
    have h : (none : Rs Int32) = some (r9, L9, mc, ms) := h
    cases h
  | succ n ih =>
    intro j0 x1 x2 x3 x4 x5 L mc ms h
    unfold f_X0_outOf_8 at h
    refine aw_iload hK 5 dX0_outOf_8 rfl ?_
    refine aw_aload_n hK 0 dX0_outOf_10 rfl rfl ?_
    refine aw_gR hK fw_c0 1 (by decide) rfl q227 (fun _ h9 => h9) dX0_outOf_11 h (fun r1 h => ?_)
    refine aw_iload_n hK 1 dX0_outOf_14 rfl rfl ?_
    obtain _ | j2 := r1
    · exact (fw_nn_no h).elim
    replace h := fw_nn_so h
    refine aw_aald hK 6 (by decide) rfl dX0_outOf_15 h (fun r3 h => ?_)
    obtain _ | j6 := r3
    · exact (fw_nn_no h).elim
    replace h := fw_nn_so h
    obtain ⟨hj, h⟩ := fw_is_h h
    refine aw_callV_i (n := 0) hK fw_c1 hj (fun _ _ _ _ q => fw_czx hZ (ct_X2_many q)) (lw_V q656 q657 q658 q96 q659) (by decide +kernel) (by decide) rfl rfl (Nat.le_of_ble_eq_true rfl) dX0_outOf_16 h (fun v5 L4 _ _ h => ?_)
    refine aw_icmp_ge (tgt := 68) hK dX0_outOf_19 (by decide) h (fun h => ?_) (fun h => ?_)
    · refine aw_aload_n hK 0 dX0_outOf_68 rfl rfl ?_
      refine aw_iconst (v := (-nI 1)) hK dX0_outOf_69 rfl ?_
      refine aw_pI hK fw_c0 17 (by decide) rfl q243 (fun _ h9 => h9) rfl rfl rfl dX0_outOf_70 h (fun L7 h => ?_)
      refine aw_goto (tgt := 86) hK dX0_outOf_73 (by decide) ?_
      refine aw_iload_n hK 3 dX0_outOf_86 rfl rfl ?_
      refine aw_iconst (v := (-nI 1)) hK dX0_outOf_87 rfl ?_
      refine aw_icmp_eq (tgt := 95) hK dX0_outOf_88 (by decide) h (fun h => ?_) (fun h => ?_)
      · exact aw_sub [3] rfl (w_X0_outOf_95 hK hZ hF h)
      · refine aw_iload_n hK 2 dX0_outOf_91 rfl rfl ?_
        refine aw_if_ne (tgt := 99) hK dX0_outOf_92 (by decide) h (fun h => ?_) (fun h => ?_)
        · refine aw_iload_n hK 1 dX0_outOf_99 rfl rfl ?_
          refine aw_iload hK 4 dX0_outOf_100 rfl ?_
          refine aw_callS_i (n := 2) hK (fun _ _ _ _ q => fw_czx hZ (ct_X0_place q)) (lw_S q935 q936 q94 q937) (by decide +kernel) (by decide) rfl rfl (Nat.le_of_ble_eq_true rfl) dX0_outOf_102 h (fun v9 L8 _ _ h => ?_)
          exact aw_iret hK dX0_outOf_105 h hF
        · exact aw_sub [3] rfl (w_X0_outOf_95 hK hZ hF h)
    · refine aw_aload_n hK 0 dX0_outOf_22 rfl rfl ?_
      refine aw_bipush (v := (nI 8)) hK dX0_outOf_23 rfl ?_
      refine aw_iload_n hK 1 dX0_outOf_25 rfl rfl ?_
      refine aw_imul hK dX0_outOf_26 ?_
      refine aw_iload hK 5 dX0_outOf_27 rfl ?_
      refine aw_iadd hK dX0_outOf_29 ?_
      refine aw_pI hK fw_c0 17 (by decide) rfl q243 (fun _ h9 => h9) rfl rfl rfl dX0_outOf_30 h (fun L10 h => ?_)
      refine aw_aload_n hK 0 dX0_outOf_33 rfl rfl ?_
      obtain ⟨hj, h⟩ := fw_is_h h
      refine aw_callV_v (n := 0) hK fw_c0 hj (fun _ _ _ _ q => fw_czx hZ (ct_X0_find q)) (lw_V q781 q783 qs9 q94 q784) (by decide +kernel) (by decide) rfl rfl (Nat.le_of_ble_eq_true rfl) dX0_outOf_34 h (fun _ L11 _ _ h => ?_)
      refine aw_aload_n hK 0 dX0_outOf_37 rfl rfl ?_
      refine aw_iload_n hK 1 dX0_outOf_38 rfl rfl ?_
      obtain ⟨hj, h⟩ := fw_is_h h
      refine aw_callV_i (n := 1) hK fw_c0 hj (fun _ _ _ _ q => fw_czx hZ (ct_X0_far q)) (lw_V q931 q933 qs25 q94 q934) (by decide +kernel) (by decide) rfl rfl (Nat.le_of_ble_eq_true rfl) dX0_outOf_39 h (fun v13 L12 _ _ h => ?_)
      refine aw_iload hK 4 dX0_outOf_42 rfl ?_
      refine aw_icmp_gt (tgt := 50) hK dX0_outOf_44 (by decide) h (fun h => ?_) (fun h => ?_)
      · refine aw_aload_n hK 0 dX0_outOf_50 rfl rfl ?_
        refine aw_gI hK fw_c0 17 (by decide) rfl q243 (fun _ h9 => h9) dX0_outOf_51 h (fun v14 h => ?_)
        refine aw_istore_n (lv' := [(3, aI v14), (0, aR (some j0)), (1, aI x1), (2, aI x2), (4, aI x4), (5, aI x5)]) hK dX0_outOf_54 rfl (by decide) rfl ?_
        refine aw_aload_n hK 1 dX0_outOf_55 rfl rfl ?_
        refine aw_iload_n hK 2 dX0_outOf_56 rfl rfl ?_
        obtain ⟨hj, h⟩ := fw_is_h h
        refine aw_callV_i (n := 1) hK fw_c0 hj (fun _ _ _ _ q => fw_czx hZ (ct_X0_far q)) (lw_V q931 q933 qs25 q94 q934) (by decide +kernel) (by decide) rfl rfl (Nat.le_of_ble_eq_true rfl) dX0_outOf_57 h (fun v16 L15 _ _ h => ?_)
        refine aw_istore (lv' := [(4, aI v16), (3, aI v14), (0, aR (some j0)), (1, aI x1), (2, aI x2), (5, aI x5)]) hK dX0_outOf_60 (by decide) rfl ?_
        exact aw_sub [2, 3, 4, 1, 0, 5] rfl (w_X0_outOf_62 hK hZ hF (fun h => ih h) h)
      · refine aw_goto (tgt := 62) hK dX0_outOf_47 (by decide) ?_
        exact w_X0_outOf_62 hK hZ hF (fun h => ih h) h
set_option maxHeartbeats 4000000 in
set_option maxRecDepth 100000 in
theorem w_X0_outOf_0 {K : Kx} {r9 : Int32} {L9 : LH} (hK : Ok K cX0_outOf 7 RX0 13 287) (hZ : fw_isZ K) (hF : Fin K (some (.int)) (some (aI r9)) L9) {j0 : Nat} {x1 : Int32} {x2 : Int32} {L : LH} {mc ms : Nat} (h : f_X0_outOf j0 x1 x2 L = some (r9, L9, mc, ms)) : AW K L mc ms 0 [(0, aR (some j0)), (1, aI x1), (2, aI x2)] [] := by
  unfold f_X0_outOf at h
  refine aw_iconst (v := (-nI 1)) hK dX0_outOf_0 rfl ?_
  refine aw_istore_n (lv' := [(3, aI (-nI 1)), (0, aR (some j0)), (1, aI x1), (2, aI x2)]) hK dX0_outOf_1 rfl (by decide) rfl ?_
  refine aw_iconst (v := (-nI 1)) hK dX0_outOf_2 rfl ?_
  refine aw_istore (lv' := [(4, aI (-nI 1)), (3, aI (-nI 1)), (0, aR (some j0)), (1, aI x1), (2, aI x2)]) hK dX0_outOf_3 (by decide) rfl ?_
  refine aw_iconst (v := (nI 0)) hK dX0_outOf_5 rfl ?_
  refine aw_istore (lv' := [(5, aI (nI 0)), (4, aI (-nI 1)), (3, aI (-nI 1)), (0, aR (some j0)), (1, aI x1), (2, aI x2)]) hK dX0_outOf_6 (by decide) rfl ?_
  exact aw_sub [3, 4, 5, 2, 1, 0] rfl (w_X0_outOf_8 hK hZ hF h)
theorem ct_X0_outOf {j0 : Nat} {x1 : Int32} {x2 : Int32} {L : LH} {r9 : Int32} {L9 : LH} {mc ms : Nat} (h : f_X0_outOf j0 x1 x2 L = some (r9, L9, mc, ms)) : fw_Cx yX0_outOf (wsW_ yX0_outOf cX0_outOf 7 (some (.int)) [(5, 68, 76, 0), (76, 78, 76, 0)]) 13 287 [aR (some j0), aI x1, aI x2] L (some (aI r9)) L9 mc ms :=
  fun b1 b2 => ct_ofH (own := RX0) fw_ZX_ok (by decide +kernel) rfl (Nat.le_of_ble_eq_true rfl) (fun K hZ hK hF hini => w_X0_outOf_0 hK ⟨b1, b2, hZ⟩ hF h)
def f_X0_isSpared_22 (j0 : Nat) (sx0 : Int32) (L : LH) : Rs Int32 :=
  fw_pI 1 L j0 16 (nI 0) fun L1 =>
  fw_bo sx0 <|
  some (sx0, L1, 0, 0)
def f_X0_isSpared (j0 : Nat) (x1 : Int32) (L : LH) : Rs Int32 :=
  fw_pI 1 L j0 16 x1 fun L1 =>
  fw_is 1 L1 j0 <|
  fw_cl (f_X0_find j0 L1) fun _ L2 =>
  fw_is 1 L2 j0 <|
  fw_cl (f_X0_winner j0 L2) fun v4 L3 =>
  if v4 = (nI 1) then (
    f_X0_isSpared_22 j0 (nI 0) L3
  ) else (
    f_X0_isSpared_22 j0 (nI 1) L3
  )
set_option maxHeartbeats 4000000 in
set_option maxRecDepth 100000 in
theorem w_X0_isSpared_22 {K : Kx} {r9 : Int32} {L9 : LH} (hK : Ok K cX0_isSpared 4 RX0 13 287) (hZ : fw_isZ K) (hF : Fin K (some (.boolean)) (some (aI r9)) L9) {j0 : Nat} {sx0 : Int32} {L : LH} {mc ms : Nat} (h : f_X0_isSpared_22 j0 sx0 L = some (r9, L9, mc, ms)) : AW K L mc ms 22 [(0, aR (some j0))] [aI sx0] := by
  unfold f_X0_isSpared_22 at h
  refine aw_istore_n (lv' := [(2, aI sx0), (0, aR (some j0))]) hK dX0_isSpared_22 rfl (by decide) rfl ?_
  refine aw_aload_n hK 1 dX0_isSpared_23 rfl rfl ?_
  refine aw_iconst (v := (nI 0)) hK dX0_isSpared_24 rfl ?_
  refine aw_pI hK fw_c0 16 (by decide) rfl q242 (fun _ h9 => h9) rfl rfl rfl dX0_isSpared_25 h (fun L1 h => ?_)
  refine aw_iload_n hK 0 dX0_isSpared_28 rfl rfl ?_
  obtain ⟨hbo, h⟩ := fw_bo_h h
  exact aw_zret hK hbo dX0_isSpared_29 h hF
set_option maxHeartbeats 4000000 in
set_option maxRecDepth 100000 in
theorem w_X0_isSpared_0 {K : Kx} {r9 : Int32} {L9 : LH} (hK : Ok K cX0_isSpared 4 RX0 13 287) (hZ : fw_isZ K) (hF : Fin K (some (.boolean)) (some (aI r9)) L9) {j0 : Nat} {x1 : Int32} {L : LH} {mc ms : Nat} (h : f_X0_isSpared j0 x1 L = some (r9, L9, mc, ms)) : AW K L mc ms 0 [(0, aR (some j0)), (1, aI x1)] [] := by
  unfold f_X0_isSpared at h
  refine aw_aload_n hK 0 dX0_isSpared_0 rfl rfl ?_
  refine aw_iload_n hK 1 dX0_isSpared_1 rfl rfl ?_
  refine aw_pI hK fw_c0 16 (by decide) rfl q242 (fun _ h9 => h9) rfl rfl rfl dX0_isSpared_2 h (fun L1 h => ?_)
  refine aw_aload_n hK 0 dX0_isSpared_5 rfl rfl ?_
  obtain ⟨hj, h⟩ := fw_is_h h
  refine aw_callV_v (n := 0) hK fw_c0 hj (fun _ _ _ _ q => fw_czx hZ (ct_X0_find q)) (lw_V q781 q783 qs9 q94 q784) (by decide +kernel) (by decide) rfl rfl (Nat.le_of_ble_eq_true rfl) dX0_isSpared_6 h (fun _ L2 _ _ h => ?_)
  refine aw_aload_n hK 0 dX0_isSpared_9 rfl rfl ?_
  obtain ⟨hj, h⟩ := fw_is_h h
  refine aw_callV_i (n := 0) hK fw_c0 hj (fun _ _ _ _ q => fw_czx hZ (ct_X0_winner q)) (lw_V q886 q888 qs20 q94 q889) (by decide +kernel) (by decide) rfl rfl (Nat.le_of_ble_eq_true rfl) dX0_isSpared_10 h (fun v4 L3 _ _ h => ?_)
  refine aw_iconst (v := (nI 1)) hK dX0_isSpared_13 rfl ?_
  refine aw_icmp_eq (tgt := 21) hK dX0_isSpared_14 (by decide) h (fun h => ?_) (fun h => ?_)
  · refine aw_iconst (v := (nI 0)) hK dX0_isSpared_21 rfl ?_
    exact aw_sub [0] rfl (w_X0_isSpared_22 hK hZ hF h)
  · refine aw_iconst (v := (nI 1)) hK dX0_isSpared_17 rfl ?_
    refine aw_goto (tgt := 22) hK dX0_isSpared_18 (by decide) ?_
    exact aw_sub [0] rfl (w_X0_isSpared_22 hK hZ hF h)
theorem ct_X0_isSpared {j0 : Nat} {x1 : Int32} {L : LH} {r9 : Int32} {L9 : LH} {mc ms : Nat} (h : f_X0_isSpared j0 x1 L = some (r9, L9, mc, ms)) : fw_Cx yX0_isSpared (wsW_ yX0_isSpared cX0_isSpared 4 (some (.boolean)) [(5, 23, 30, 0)]) 13 287 [aR (some j0), aI x1] L (some (aI r9)) L9 mc ms :=
  fun b1 b2 => ct_ofH (own := RX0) fw_ZX_ok (by decide +kernel) rfl (Nat.le_of_ble_eq_true rfl) (fun K hZ hK hF hini => w_X0_isSpared_0 hK ⟨b1, b2, hZ⟩ hF h)
def f_X0_isSeen_64 (rec8 : Nat → Int32 → Int32 → LH → Rs Int32) (j0 : Nat) (x2 : Int32) (sx0 : Int32) (L : LH) : Rs Int32 :=
  rec8 j0 sx0 (x2 + (nI 1)) L
def f_X0_isSeen_8 : Nat → Nat → Int32 → Int32 → LH → Rs Int32
  | 0, _, _, _, _ => none
  | n + 1, j0, x1, x2, L =>
    fw_gR 1 L j0 20 fun r1 =>
    fw_nn r1 fun j4 =>
    fw_is 5 L j4 <|
    fw_cl (f_J2_size j4 L) fun v3 L2 =>
    if v3 ≤ x2 then (
      fw_bo x1 <|
      some (x1, L2, 0, 0)
    ) else (
      if x1 = 0 then (
        fw_bo x1 <|
        some (x1, L2, 0, 0)
      ) else (
        fw_gR 1 L2 j0 12 fun r5 =>
        fw_gR 1 L2 j0 20 fun r6 =>
        fw_nn r6 fun j9 =>
        fw_is 5 L2 j9 <|
        fw_cl (f_J2_get j9 x2 L2) fun r8 L7 =>
        fw_ck 100 L7 r8 <|
        fw_nn r8 fun j10 =>
        fw_rd 100 L7 j10 (nI 0) fun v11 =>
        fw_nn r5 fun j12 =>
        fw_rq 110 L7 j12 v11 fun r13 =>
        fw_nn r13 fun j14 =>
        fw_rd 100 L7 j14 (nI 0) fun v15 =>
        fw_gR 1 L7 j0 20 fun r16 =>
        fw_nn r16 fun j19 =>
        fw_is 5 L7 j19 <|
        fw_cl (f_J2_get j19 x2 L7) fun r18 L17 =>
        fw_ck 100 L17 r18 <|
        fw_nn r18 fun j20 =>
        fw_rd 100 L17 j20 (nI 1) fun v21 =>
        if v15 = v21 then (
          f_X0_isSeen_64 (f_X0_isSeen_8 n) j0 x2 (nI 1) L17
        ) else (
          f_X0_isSeen_64 (f_X0_isSeen_8 n) j0 x2 (nI 0) L17
        )
      )
    )
def f_X0_isSeen (j0 : Nat) (L : LH) : Rs Int32 :=
  fw_is 1 L j0 <|
  fw_cl (f_X0_find j0 L) fun _ L1 =>
  f_X0_isSeen_8 fw_fuel j0 (nI 1) (nI 0) L1
set_option maxHeartbeats 4000000 in
set_option maxRecDepth 100000 in
theorem w_X0_isSeen_64 {K : Kx} {r9 : Int32} {L9 : LH} (hK : Ok K cX0_isSeen 3 RX0 13 287) (hZ : fw_isZ K) (hF : Fin K (some (.boolean)) (some (aI r9)) L9) {rec8 : Nat → Int32 → Int32 → LH → Rs Int32} (hrec8 : ∀ {j0 : Nat} {x1 : Int32} {x2 : Int32} {L : LH} {mc ms : Nat}, rec8 j0 x1 x2 L = some (r9, L9, mc, ms) → AW K L mc ms 8 [(0, aR (some j0)), (1, aI x1), (2, aI x2)] []) {j0 : Nat} {x2 : Int32} {sx0 : Int32} {L : LH} {mc ms : Nat} (h : f_X0_isSeen_64 rec8 j0 x2 sx0 L = some (r9, L9, mc, ms)) : AW K L mc ms 64 [(0, aR (some j0)), (2, aI x2)] [aI sx0] := by
  unfold f_X0_isSeen_64 at h
  refine aw_istore_n (lv' := [(1, aI sx0), (0, aR (some j0)), (2, aI x2)]) hK dX0_isSeen_64 rfl (by decide) rfl ?_
  refine aw_iinc (v := (x2 + (nI 1))) (lv' := [(2, aI (x2 + (nI 1))), (1, aI sx0), (0, aR (some j0))]) hK 2 dX0_isSeen_65 rfl rfl (by decide) rfl ?_
  refine aw_goto (tgt := 8) hK dX0_isSeen_68 (by decide) ?_
  exact aw_sub [2, 1, 0] rfl (hrec8 h)
set_option maxHeartbeats 4000000 in
set_option maxRecDepth 100000 in
theorem w_X0_isSeen_8 {K : Kx} {r9 : Int32} {L9 : LH} (hK : Ok K cX0_isSeen 3 RX0 13 287) (hZ : fw_isZ K) (hF : Fin K (some (.boolean)) (some (aI r9)) L9) : ∀ {n : Nat} {j0 : Nat} {x1 : Int32} {x2 : Int32} {L : LH} {mc ms : Nat}, f_X0_isSeen_8 n j0 x1 x2 L = some (r9, L9, mc, ms) → AW K L mc ms 8 [(0, aR (some j0)), (1, aI x1), (2, aI x2)] [] := by
  intro n
  induction n with
  | zero =>
    intro j0 x1 x2 L mc ms h
    have h : (none : Rs Int32) = some (r9, L9, mc, ms) := h
    cases h
  | succ n ih =>
    intro j0 x1 x2 L mc ms h
    unfold f_X0_isSeen_8 at h
    refine aw_iload_n hK 2 dX0_isSeen_8 rfl rfl ?_
    refine aw_aload_n hK 0 dX0_isSeen_9 rfl rfl ?_
    refine aw_gR hK fw_c0 20 (by decide) rfl q246 (fun _ h9 => h9) dX0_isSeen_10 h (fun r1 h => ?_)
    obtain _ | j4 := r1
    · exact (fw_nn_no h).elim
    replace h := fw_nn_so h
    obtain ⟨hj, h⟩ := fw_is_h h
    refine aw_callV_i (n := 0) hK fw_c4 hj (fun _ _ _ _ q => fw_czx hZ (ct_J2_size q)) (lw_V q730 q385 q386 q99 q387) (by decide +kernel) (by decide) rfl rfl (Nat.le_of_ble_eq_true rfl) dX0_isSeen_13 h (fun v3 L2 _ _ h => ?_)
    refine aw_icmp_ge (tgt := 71) hK dX0_isSeen_16 (by decide) h (fun h => ?_) (fun h => ?_)
    · refine aw_iload_n hK 1 dX0_isSeen_71 rfl rfl ?_
      obtain ⟨hbo, h⟩ := fw_bo_h h
      exact aw_zret hK hbo dX0_isSeen_72 h hF
    · refine aw_iload_n hK 1 dX0_isSeen_19 rfl rfl ?_
      refine aw_if_eq (tgt := 71) hK dX0_isSeen_20 (by decide) h (fun h => ?_) (fun h => ?_)
      · refine aw_iload_n hK 1 dX0_isSeen_71 rfl rfl ?_
        obtain ⟨hbo, h⟩ := fw_bo_h h
        exact aw_zret hK hbo dX0_isSeen_72 h hF
      · refine aw_aload_n hK 0 dX0_isSeen_23 rfl rfl ?_
        refine aw_gR hK fw_c0 12 (by decide) rfl q238 (fun _ h9 => h9) dX0_isSeen_24 h (fun r5 h => ?_)
        refine aw_aload_n hK 0 dX0_isSeen_27 rfl rfl ?_
        refine aw_gR hK fw_c0 20 (by decide) rfl q246 (fun _ h9 => h9) dX0_isSeen_28 h (fun r6 h => ?_)
        refine aw_iload_n hK 2 dX0_isSeen_31 rfl rfl ?_
        obtain _ | j9 := r6
        · exact (fw_nn_no h).elim
        replace h := fw_nn_so h
        obtain ⟨hj, h⟩ := fw_is_h h
        refine aw_callV_r (n := 1) hK fw_c4 hj (fun _ _ _ _ q => fw_czx hZ (ct_J2_get q)) (lw_V q669 q670 q671 q99 q672) (by decide +kernel) (by decide) rfl rfl (Nat.le_of_ble_eq_true rfl) dX0_isSeen_32 h (fun r8 L7 _ _ h => ?_)
        refine aw_cka hK 0 (by decide) rfl q798 dX0_isSeen_35 h (fun h => ?_)
        refine aw_iconst (v := (nI 0)) hK dX0_isSeen_38 rfl ?_
        obtain _ | j10 := r8
        · exact (fw_nn_no h).elim
        replace h := fw_nn_so h
        refine aw_iald hK dX0_isSeen_39 h (fun v11 h => ?_)
        obtain _ | j12 := r5
        · exact (fw_nn_no h).elim
        replace h := fw_nn_so h
        refine aw_aald hK 10 (by decide) rfl dX0_isSeen_40 h (fun r13 h => ?_)
        refine aw_iconst (v := (nI 0)) hK dX0_isSeen_41 rfl ?_
        obtain _ | j14 := r13
        · exact (fw_nn_no h).elim
        replace h := fw_nn_so h
        refine aw_iald hK dX0_isSeen_42 h (fun v15 h => ?_)
        refine aw_aload_n hK 0 dX0_isSeen_43 rfl rfl ?_
        refine aw_gR hK fw_c0 20 (by decide) rfl q246 (fun _ h9 => h9) dX0_isSeen_44 h (fun r16 h => ?_)
        refine aw_iload_n hK 2 dX0_isSeen_47 rfl rfl ?_
        obtain _ | j19 := r16
        · exact (fw_nn_no h).elim
        replace h := fw_nn_so h
        obtain ⟨hj, h⟩ := fw_is_h h
        refine aw_callV_r (n := 1) hK fw_c4 hj (fun _ _ _ _ q => fw_czx hZ (ct_J2_get q)) (lw_V q669 q670 q671 q99 q672) (by decide +kernel) (by decide) rfl rfl (Nat.le_of_ble_eq_true rfl) dX0_isSeen_48 h (fun r18 L17 _ _ h => ?_)
        refine aw_cka hK 0 (by decide) rfl q798 dX0_isSeen_51 h (fun h => ?_)
        refine aw_iconst (v := (nI 1)) hK dX0_isSeen_54 rfl ?_
        obtain _ | j20 := r18
        · exact (fw_nn_no h).elim
        replace h := fw_nn_so h
        refine aw_iald hK dX0_isSeen_55 h (fun v21 h => ?_)
        refine aw_icmp_ne (tgt := 63) hK dX0_isSeen_56 (by decide) h (fun h => ?_) (fun h => ?_)
        · refine aw_iconst (v := (nI 0)) hK dX0_isSeen_63 rfl ?_
          exact aw_sub [0, 2] rfl (w_X0_isSeen_64 hK hZ hF (fun h => ih h) h)
        · refine aw_iconst (v := (nI 1)) hK dX0_isSeen_59 rfl ?_
          refine aw_goto (tgt := 64) hK dX0_isSeen_60 (by decide) ?_
          exact aw_sub [0, 2] rfl (w_X0_isSeen_64 hK hZ hF (fun h => ih h) h)
set_option maxHeartbeats 4000000 in
set_option maxRecDepth 100000 in
theorem w_X0_isSeen_0 {K : Kx} {r9 : Int32} {L9 : LH} (hK : Ok K cX0_isSeen 3 RX0 13 287) (hZ : fw_isZ K) (hF : Fin K (some (.boolean)) (some (aI r9)) L9) {j0 : Nat} {L : LH} {mc ms : Nat} (h : f_X0_isSeen j0 L = some (r9, L9, mc, ms)) : AW K L mc ms 0 [(0, aR (some j0))] [] := by
  unfold f_X0_isSeen at h
  refine aw_aload_n hK 0 dX0_isSeen_0 rfl rfl ?_
  obtain ⟨hj, h⟩ := fw_is_h h
  refine aw_callV_v (n := 0) hK fw_c0 hj (fun _ _ _ _ q => fw_czx hZ (ct_X0_find q)) (lw_V q781 q783 qs9 q94 q784) (by decide +kernel) (by decide) rfl rfl (Nat.le_of_ble_eq_true rfl) dX0_isSeen_1 h (fun _ L1 _ _ h => ?_)
  refine aw_iconst (v := (nI 1)) hK dX0_isSeen_4 rfl ?_
  refine aw_istore_n (lv' := [(1, aI (nI 1)), (0, aR (some j0))]) hK dX0_isSeen_5 rfl (by decide) rfl ?_
  refine aw_iconst (v := (nI 0)) hK dX0_isSeen_6 rfl ?_
  refine aw_istore_n (lv' := [(2, aI (nI 0)), (1, aI (nI 1)), (0, aR (some j0))]) hK dX0_isSeen_7 rfl (by decide) rfl ?_
  exact aw_sub [2, 1, 0] rfl (w_X0_isSeen_8 hK hZ hF h)
theorem ct_X0_isSeen {j0 : Nat} {L : LH} {r9 : Int32} {L9 : LH} {mc ms : Nat} (h : f_X0_isSeen j0 L = some (r9, L9, mc, ms)) : fw_Cx yX0_isSeen (ws_ yX0_isSeen cX0_isSeen 3 (some (.boolean))) 13 287 [aR (some j0)] L (some (aI r9)) L9 mc ms :=
  fun b1 b2 => ct_of (own := RX0) fw_ZX_ok (by decide +kernel) rfl (Nat.le_of_ble_eq_true rfl) (fun K hZ hK hF hini => w_X0_isSeen_0 hK ⟨b1, b2, hZ⟩ hF h)
def f_X0_weightsBy_44 (rec12 : Nat → Option Nat → Int32 → Int32 → LH → Rs Int32) : Nat → Nat → Option Nat → Int32 → Int32 → Int32 → LH → Rs Int32
  | 0, _, _, _, _, _, _ => none
  | n + 1, j0, rp1, x2, x3, x4, L =>
    if (nI 24) ≤ x4 then (
      fw_nn rp1 fun j2 =>
      fw_gI 6 L j2 1 fun v1 =>
      fw_pI 6 L j2 1 (v1 + (nI 1)) fun L3 =>
      rec12 j0 (some j2) x2 x3 L3
    ) else (
      fw_gR 1 L j0 21 fun r4 =>
      fw_nn rp1 fun j6 =>
      fw_gI 6 L j6 1 fun v5 =>
      fw_nn r4 fun j7 =>
      fw_rq 110 L j7 v5 fun r8 =>
      fw_gR 1 L j0 12 fun r9 =>
      fw_nn r9 fun j10 =>
      fw_rq 110 L j10 x4 fun r11 =>
      fw_nn r11 fun j12 =>
      fw_rd 100 L j12 (nI 0) fun v13 =>
      fw_nn r8 fun j14 =>
      fw_wr 100 L j14 x4 v13 fun L15 =>
      f_X0_weightsBy_44 rec12 n j0 (some j6) x2 x3 (x4 + (nI 1)) L15
    )
def f_X0_weightsBy_39 (rec12 : Nat → Option Nat → Int32 → Int32 → LH → Rs Int32) (j0 : Nat) (rp1 : Option Nat) (x2 : Int32) (sx0 : Int32) (sx1 : Int32) (L : LH) : Rs Int32 :=
  f_X0_weightsBy_44 rec12 fw_fuel j0 rp1 x2 (sx1 ||| sx0) (nI 0) L
def f_X0_weightsBy_12 : Nat → Nat → Option Nat → Int32 → Int32 → LH → Rs Int32
  | 0, _, _, _, _, _ => none
  | n + 1, j0, rp1, x2, x3, L =>
    fw_nn rp1 fun j2 =>
    fw_gI 6 L j2 1 fun v1 =>
    if (nI 9) < v1 then (
      fw_pI 6 L j2 1 x2 fun L3 =>
      some (x3, L3, 0, 0)
    ) else (
      fw_is 1 L j0 <|
      fw_cl (f_X0_isSeen j0 L) fun v5 L4 =>
      if v5 = 0 then (
        f_X0_weightsBy_39 (f_X0_weightsBy_12 n) j0 (some j2) x2 (nI 0) x3 L4
      ) else (
        fw_gI 6 L4 j2 1 fun v6 =>
        f_X0_weightsBy_39 (f_X0_weightsBy_12 n) j0 (some j2) x2 ((nI 1) <<< (v6 &&& 31)) x3 L4
      )
    )
def f_X0_weightsBy (j0 : Nat) (rp1 : Option Nat) (L : LH) : Rs Int32 :=
  fw_nn rp1 fun j2 =>
  fw_gI 6 L j2 1 fun v1 =>
  fw_pI 6 L j2 1 (nI 1) fun L3 =>
  f_X0_weightsBy_12 fw_fuel j0 (some j2) v1 (nI 0) L3
set_option maxHeartbeats 4000000 in
set_option maxRecDepth 100000 in
theorem w_X0_weightsBy_44 {K : Kx} {r9 : Int32} {L9 : LH} (hK : Ok K cX0_weightsBy 6 RX0 14 309) (hZ : fw_isZ K) (hF : Fin K (some (.int)) (some (aI r9)) L9) {rec12 : Nat → Option Nat → Int32 → Int32 → LH → Rs Int32} (hrec12 : ∀ {j0 : Nat} {rp1 : Option Nat} {x2 : Int32} {x3 : Int32} {L : LH} {mc ms : Nat}, rec12 j0 rp1 x2 x3 L = some (r9, L9, mc, ms) → AW K L mc ms 12 [(0, aR (some j0)), (1, aR rp1), (2, aI x2), (3, aI x3)] []) : ∀ {n : Nat} {j0 : Nat} {rp1 : Option Nat} {x2 : Int32} {x3 : Int32} {x4 : Int32} {L : LH} {mc ms : Nat}, f_X0_weightsBy_44 rec12 n j0 rp1 x2 x3 x4 L = some (r9, L9, mc, ms) → AW K L mc ms 44 [(0, aR (some j0)), (1, aR rp1), (2, aI x2), (3, aI x3), (4, aI x4)] [] := by
  intro n
  induction n with
  | zero =>
    intro j0 rp1 x2 x3 x4 L mc ms h
    have h : (none : Rs Int32) = some (r9, L9, mc, ms) := h
    cases h
  | succ n ih =>
    intro j0 rp1 x2 x3 x4 L mc ms h
    unfold f_X0_weightsBy_44 at h
    refine aw_iload hK 4 dX0_weightsBy_44 rfl ?_
    refine aw_bipush (v := (nI 24)) hK dX0_weightsBy_46 rfl ?_
    refine aw_icmp_ge (tgt := 78) hK dX0_weightsBy_48 (by decide) h (fun h => ?_) (fun h => ?_)
    · refine aw_aload_n hK 1 dX0_weightsBy_78 rfl rfl ?_
      refine aw_dup hK dX0_weightsBy_79 rfl ?_
      obtain _ | j2 := rp1
      · exact (fw_nn_no h).elim
      replace h := fw_nn_so h
      refine aw_gIN hK fw_c5 1 (by decide) rfl (fw_nsW hK hZ (w := Cond.fieldLinkNest "TugOfWar" 208 "TugOfWar$Puller" "weight" "I" "TugOfWar") (by decide)) (fun _ h9 => h9) dX0_weightsBy_80 h (fun v1 h => ?_)
      refine aw_iconst (v := (nI 1)) hK dX0_weightsBy_83 rfl ?_
      refine aw_iadd hK dX0_weightsBy_84 ?_
      refine aw_pIN hK fw_c5 1 (by decide) rfl (fw_nsW hK hZ (w := Cond.fieldLinkNest "TugOfWar" 208 "TugOfWar$Puller" "weight" "I" "TugOfWar") (by decide)) (fun _ h9 => h9) rfl rfl rfl dX0_weightsBy_85 h (fun L3 h => ?_)
      refine aw_goto (tgt := 12) hK dX0_weightsBy_88 (by decide) ?_
      exact aw_sub [0, 1, 2, 3] rfl (hrec12 h)
    · refine aw_aload_n hK 0 dX0_weightsBy_51 rfl rfl ?_
      refine aw_gR hK fw_c0 21 (by decide) rfl q247 (fun _ h9 => h9) dX0_weightsBy_52 h (fun r4 h => ?_)
      refine aw_aload_n hK 1 dX0_weightsBy_55 rfl rfl ?_
      obtain _ | j6 := rp1
      · exact (fw_nn_no h).elim
      replace h := fw_nn_so h
      refine aw_gIN hK fw_c5 1 (by decide) rfl (fw_nsW hK hZ (w := Cond.fieldLinkNest "TugOfWar" 208 "TugOfWar$Puller" "weight" "I" "TugOfWar") (by decide)) (fun _ h9 => h9) dX0_weightsBy_56 h (fun v5 h => ?_)
      obtain _ | j7 := r4
      · exact (fw_nn_no h).elim
      replace h := fw_nn_so h
      refine aw_aald hK 10 (by decide) rfl dX0_weightsBy_59 h (fun r8 h => ?_)
      refine aw_iload hK 4 dX0_weightsBy_60 rfl ?_
      refine aw_aload_n hK 0 dX0_weightsBy_62 rfl rfl ?_
      refine aw_gR hK fw_c0 12 (by decide) rfl q238 (fun _ h9 => h9) dX0_weightsBy_63 h (fun r9 h => ?_)
      refine aw_iload hK 4 dX0_weightsBy_66 rfl ?_
      obtain _ | j10 := r9
      · exact (fw_nn_no h).elim
      replace h := fw_nn_so h
      refine aw_aald hK 10 (by decide) rfl dX0_weightsBy_68 h (fun r11 h => ?_)
      refine aw_iconst (v := (nI 0)) hK dX0_weightsBy_69 rfl ?_
      obtain _ | j12 := r11
      · exact (fw_nn_no h).elim
      replace h := fw_nn_so h
      refine aw_iald hK dX0_weightsBy_70 h (fun v13 h => ?_)
      obtain _ | j14 := r8
      · exact (fw_nn_no h).elim
      replace h := fw_nn_so h
      refine aw_iast hK dX0_weightsBy_71 h (fun L15 h => ?_)
      refine aw_iinc (v := (x4 + (nI 1))) (lv' := [(4, aI (x4 + (nI 1))), (0, aR (some j0)), (1, aR (some j6)), (2, aI x2), (3, aI x3)]) hK 4 dX0_weightsBy_72 rfl rfl (by decide) rfl ?_
      refine aw_goto (tgt := 44) hK dX0_weightsBy_75 (by decide) ?_
      exact aw_sub [1, 2, 3, 4, 0] rfl (ih h)
set_option maxHeartbeats 4000000 in
set_option maxRecDepth 100000 in
theorem w_X0_weightsBy_39 {K : Kx} {r9 : Int32} {L9 : LH} (hK : Ok K cX0_weightsBy 6 RX0 14 309) (hZ : fw_isZ K) (hF : Fin K (some (.int)) (some (aI r9)) L9) {rec12 : Nat → Option Nat → Int32 → Int32 → LH → Rs Int32} (hrec12 : ∀ {j0 : Nat} {rp1 : Option Nat} {x2 : Int32} {x3 : Int32} {L : LH} {mc ms : Nat}, rec12 j0 rp1 x2 x3 L = some (r9, L9, mc, ms) → AW K L mc ms 12 [(0, aR (some j0)), (1, aR rp1), (2, aI x2), (3, aI x3)] []) {j0 : Nat} {rp1 : Option Nat} {x2 : Int32} {sx0 : Int32} {sx1 : Int32} {L : LH} {mc ms : Nat} (h : f_X0_weightsBy_39 rec12 j0 rp1 x2 sx0 sx1 L = some (r9, L9, mc, ms)) : AW K L mc ms 39 [(0, aR (some j0)), (1, aR rp1), (2, aI x2)] [aI sx0, aI sx1] := by
  unfold f_X0_weightsBy_39 at h
  refine aw_ior hK dX0_weightsBy_39 ?_
  refine aw_istore_n (lv' := [(3, aI (sx1 ||| sx0)), (0, aR (some j0)), (1, aR rp1), (2, aI x2)]) hK dX0_weightsBy_40 rfl (by decide) rfl ?_
  refine aw_iconst (v := (nI 0)) hK dX0_weightsBy_41 rfl ?_
  refine aw_istore (lv' := [(4, aI (nI 0)), (3, aI (sx1 ||| sx0)), (0, aR (some j0)), (1, aR rp1), (2, aI x2)]) hK dX0_weightsBy_42 (by decide) rfl ?_
  exact aw_sub [2, 3, 4, 1, 0] rfl (w_X0_weightsBy_44 hK hZ hF (fun h => hrec12 h) h)
set_option maxHeartbeats 4000000 in
set_option maxRecDepth 100000 in
theorem w_X0_weightsBy_12 {K : Kx} {r9 : Int32} {L9 : LH} (hK : Ok K cX0_weightsBy 6 RX0 14 309) (hZ : fw_isZ K) (hF : Fin K (some (.int)) (some (aI r9)) L9) : ∀ {n : Nat} {j0 : Nat} {rp1 : Option Nat} {x2 : Int32} {x3 : Int32} {L : LH} {mc ms : Nat}, f_X0_weightsBy_12 n j0 rp1 x2 x3 L = some (r9, L9, mc, ms) → AW K L mc ms 12 [(0, aR (some j0)), (1, aR rp1), (2, aI x2), (3, aI x3)] [] := by
  intro n
  induction n with
  | zero =>
    intro j0 rp1 x2 x3 L mc ms h
    have h : (none : Rs Int32) = some (r9, L9, mc, ms) := h
    cases h
  | succ n ih =>
    intro j0 rp1 x2 x3 L mc ms h
    unfold f_X0_weightsBy_12 at h
    refine aw_aload_n hK 1 dX0_weightsBy_12 rfl rfl ?_
    obtain _ | j2 := rp1
    · exact (fw_nn_no h).elim
    replace h := fw_nn_so h
    refine aw_gIN hK fw_c5 1 (by decide) rfl (fw_nsW hK hZ (w := Cond.fieldLinkNest "TugOfWar" 208 "TugOfWar$Puller" "weight" "I" "TugOfWar") (by decide)) (fun _ h9 => h9) dX0_weightsBy_13 h (fun v1 h => ?_)
    refine aw_bipush (v := (nI 9)) hK dX0_weightsBy_16 rfl ?_
    refine aw_icmp_gt (tgt := 91) hK dX0_weightsBy_18 (by decide) h (fun h => ?_) (fun h => ?_)
    · refine aw_aload_n hK 1 dX0_weightsBy_91 rfl rfl ?_
      refine aw_iload_n hK 2 dX0_weightsBy_92 rfl rfl ?_
      refine aw_pIN hK fw_c5 1 (by decide) rfl (fw_nsW hK hZ (w := Cond.fieldLinkNest "TugOfWar" 208 "TugOfWar$Puller" "weight" "I" "TugOfWar") (by decide)) (fun _ h9 => h9) rfl rfl rfl dX0_weightsBy_93 h (fun L3 h => ?_)
      refine aw_goto (tgt := 109) hK dX0_weightsBy_96 (by decide) ?_
      refine aw_iload_n hK 3 dX0_weightsBy_109 rfl rfl ?_
      exact aw_iret hK dX0_weightsBy_110 h hF
    · refine aw_iload_n hK 3 dX0_weightsBy_21 rfl rfl ?_
      refine aw_aload_n hK 0 dX0_weightsBy_22 rfl rfl ?_
      obtain ⟨hj, h⟩ := fw_is_h h
      refine aw_callV_i (n := 0) hK fw_c0 hj (fun _ _ _ _ q => fw_czx hZ (ct_X0_isSeen q)) (lw_V q985 q987 qs31 q94 q988) (by decide +kernel) (by decide) rfl rfl (Nat.le_of_ble_eq_true rfl) dX0_weightsBy_23 h (fun v5 L4 _ _ h => ?_)
      refine aw_if_eq (tgt := 38) hK dX0_weightsBy_26 (by decide) h (fun h => ?_) (fun h => ?_)
      · refine aw_iconst (v := (nI 0)) hK dX0_weightsBy_38 rfl ?_
        exact aw_sub [0, 1, 2] rfl (w_X0_weightsBy_39 hK hZ hF (fun h => ih h) h)
      · refine aw_iconst (v := (nI 1)) hK dX0_weightsBy_29 rfl ?_
        refine aw_aload_n hK 1 dX0_weightsBy_30 rfl rfl ?_
        refine aw_gIN hK fw_c5 1 (by decide) rfl (fw_nsW hK hZ (w := Cond.fieldLinkNest "TugOfWar" 208 "TugOfWar$Puller" "weight" "I" "TugOfWar") (by decide)) (fun _ h9 => h9) dX0_weightsBy_31 h (fun v6 h => ?_)
        refine aw_ishl hK dX0_weightsBy_34 ?_
        refine aw_goto (tgt := 39) hK dX0_weightsBy_35 (by decide) ?_
        exact aw_sub [0, 1, 2] rfl (w_X0_weightsBy_39 hK hZ hF (fun h => ih h) h)
set_option maxHeartbeats 4000000 in
set_option maxRecDepth 100000 in
theorem w_X0_weightsBy_0 {K : Kx} {r9 : Int32} {L9 : LH} (hK : Ok K cX0_weightsBy 6 RX0 14 309) (hZ : fw_isZ K) (hF : Fin K (some (.int)) (some (aI r9)) L9) {j0 : Nat} {rp1 : Option Nat} {L : LH} {mc ms : Nat} (h : f_X0_weightsBy j0 rp1 L = some (r9, L9, mc, ms)) : AW K L mc ms 0 [(0, aR (some j0)), (1, aR rp1)] [] := by
  unfold f_X0_weightsBy at h
  refine aw_aload_n hK 1 dX0_weightsBy_0 rfl rfl ?_
  obtain _ | j2 := rp1
  · exact (fw_nn_no h).elim
  replace h := fw_nn_so h
  refine aw_gIN hK fw_c5 1 (by decide) rfl (fw_nsW hK hZ (w := Cond.fieldLinkNest "TugOfWar" 208 "TugOfWar$Puller" "weight" "I" "TugOfWar") (by decide)) (fun _ h9 => h9) dX0_weightsBy_1 h (fun v1 h => ?_)
  refine aw_istore_n (lv' := [(2, aI v1), (0, aR (some j0)), (1, aR (some j2))]) hK dX0_weightsBy_4 rfl (by decide) rfl ?_
  refine aw_iconst (v := (nI 0)) hK dX0_weightsBy_5 rfl ?_
  refine aw_istore_n (lv' := [(3, aI (nI 0)), (2, aI v1), (0, aR (some j0)), (1, aR (some j2))]) hK dX0_weightsBy_6 rfl (by decide) rfl ?_
  refine aw_aload_n hK 3 dX0_weightsBy_7 rfl rfl ?_
  refine aw_iconst (v := (nI 1)) hK dX0_weightsBy_8 rfl ?_
  refine aw_pIN hK fw_c5 1 (by decide) rfl (fw_nsW hK hZ (w := Cond.fieldLinkNest "TugOfWar" 208 "TugOfWar$Puller" "weight" "I" "TugOfWar") (by decide)) (fun _ h9 => h9) rfl rfl rfl dX0_weightsBy_9 h (fun L3 h => ?_)
  exact aw_sub [2, 3, 1, 0] rfl (w_X0_weightsBy_12 hK hZ hF h)
theorem ct_X0_weightsBy {j0 : Nat} {rp1 : Option Nat} {L : LH} {r9 : Int32} {L9 : LH} {mc ms : Nat} (h : f_X0_weightsBy j0 rp1 L = some (r9, L9, mc, ms)) : fw_Cx yX0_weightsBy (wsW_ yX0_weightsBy cX0_weightsBy 6 (some (.int)) [(7, 91, 99, 0), (99, 101, 99, 0)]) 14 309 [aR (some j0), aR rp1] L (some (aI r9)) L9 mc ms :=
  fun b1 b2 => ct_ofH (own := RX0) fw_ZX_ok (by decide +kernel) rfl (Nat.le_of_ble_eq_true rfl) (fun K hZ hK hF hini => w_X0_weightsBy_0 hK ⟨b1, b2, hZ⟩ hF h)
def f_X0_sortBy_42 (rec10 : Nat → Option Nat → Option Nat → Int32 → Int32 → LH → Rs Int32) (j0 : Nat) (rp1 : Option Nat) (rp2 : Option Nat) (x4 : Int32) (sx0 : Int32) (sx1 : Int32) (L : LH) : Rs Int32 :=
  rec10 j0 rp1 rp2 (sx1 ||| sx0) (x4 + (nI 1)) L
def f_X0_sortBy_10 : Nat → Nat → Option Nat → Option Nat → Int32 → Int32 → LH → Rs Int32
  | 0, _, _, _, _, _, _ => none
  | n + 1, j0, rp1, rp2, x3, x4, L =>
    if (nI 3) ≤ x4 then (
      fw_nn rp1 fun j2 =>
      fw_pR 6 L j2 0 rp2 fun L1 =>
      some (x3, L1, 0, 0)
    ) else (
      fw_srt (fw_RO + 0) x4 fun r3 =>
      fw_nn rp1 fun j5 =>
      fw_pR 6 L j5 0 r3 fun L4 =>
      fw_is 1 L4 j0 <|
      fw_cl (f_X0_isSeen j0 L4) fun v7 L6 =>
      if v7 = 0 then (
        f_X0_sortBy_42 (f_X0_sortBy_10 n) j0 (some j5) rp2 x4 (nI 0) x3 L6
      ) else (
        f_X0_sortBy_42 (f_X0_sortBy_10 n) j0 (some j5) rp2 x4 ((nI 1) <<< (x4 &&& 31)) x3 L6
      )
    )
def f_X0_sortBy (j0 : Nat) (rp1 : Option Nat) (L : LH) : Rs Int32 :=
  fw_nn rp1 fun j2 =>
  fw_gR 6 L j2 0 fun r1 =>
  f_X0_sortBy_10 fw_fuel j0 (some j2) r1 (nI 0) (nI 0) L
set_option maxHeartbeats 4000000 in
set_option maxRecDepth 100000 in
theorem w_X0_sortBy_42 {K : Kx} {r9 : Int32} {L9 : LH} (hK : Ok K cX0_sortBy 6 RX0 14 309) (hZ : fw_isZ K) (hF : Fin K (some (.int)) (some (aI r9)) L9) {rec10 : Nat → Option Nat → Option Nat → Int32 → Int32 → LH → Rs Int32} (hrec10 : ∀ {j0 : Nat} {rp1 : Option Nat} {rp2 : Option Nat} {x3 : Int32} {x4 : Int32} {L : LH} {mc ms : Nat}, rec10 j0 rp1 rp2 x3 x4 L = some (r9, L9, mc, ms) → AW K L mc ms 10 [(0, aR (some j0)), (1, aR rp1), (2, aR rp2), (3, aI x3), (4, aI x4)] []) {j0 : Nat} {rp1 : Option Nat} {rp2 : Option Nat} {x4 : Int32} {sx0 : Int32} {sx1 : Int32} {L : LH} {mc ms : Nat} (h : f_X0_sortBy_42 rec10 j0 rp1 rp2 x4 sx0 sx1 L = some (r9, L9, mc, ms)) : AW K L mc ms 42 [(0, aR (some j0)), (1, aR rp1), (2, aR rp2), (4, aI x4)] [aI sx0, aI sx1] := by
  unfold f_X0_sortBy_42 at h
  refine aw_ior hK dX0_sortBy_42 ?_
  refine aw_istore_n (lv' := [(3, aI (sx1 ||| sx0)), (0, aR (some j0)), (1, aR rp1), (2, aR rp2), (4, aI x4)]) hK dX0_sortBy_43 rfl (by decide) rfl ?_
  refine aw_iinc (v := (x4 + (nI 1))) (lv' := [(4, aI (x4 + (nI 1))), (3, aI (sx1 ||| sx0)), (0, aR (some j0)), (1, aR rp1), (2, aR rp2)]) hK 4 dX0_sortBy_44 rfl rfl (by decide) rfl ?_
  refine aw_goto (tgt := 10) hK dX0_sortBy_47 (by decide) ?_
  exact aw_sub [2, 3, 4, 1, 0] rfl (hrec10 h)
set_option maxHeartbeats 4000000 in
set_option maxRecDepth 100000 in
theorem w_X0_sortBy_10 {K : Kx} {r9 : Int32} {L9 : LH} (hK : Ok K cX0_sortBy 6 RX0 14 309) (hZ : fw_isZ K) (hF : Fin K (some (.int)) (some (aI r9)) L9) : ∀ {n : Nat} {j0 : Nat} {rp1 : Option Nat} {rp2 : Option Nat} {x3 : Int32} {x4 : Int32} {L : LH} {mc ms : Nat}, f_X0_sortBy_10 n j0 rp1 rp2 x3 x4 L = some (r9, L9, mc, ms) → AW K L mc ms 10 [(0, aR (some j0)), (1, aR rp1), (2, aR rp2), (3, aI x3), (4, aI x4)] [] := by
  intro n
  induction n with
  | zero =>
    intro j0 rp1 rp2 x3 x4 L mc ms h
    have h : (none : Rs Int32) = some (r9, L9, mc, ms) := h
    cases h
  | succ n ih =>
    intro j0 rp1 rp2 x3 x4 L mc ms h
    unfold f_X0_sortBy_10 at h
    refine aw_iload hK 4 dX0_sortBy_10 rfl ?_
    refine aw_iconst (v := (nI 3)) hK dX0_sortBy_12 rfl ?_
    refine aw_icmp_ge (tgt := 50) hK dX0_sortBy_13 (by decide) h (fun h => ?_) (fun h => ?_)
    · refine aw_aload_n hK 1 dX0_sortBy_50 rfl rfl ?_
      refine aw_aload_n hK 2 dX0_sortBy_51 rfl rfl ?_
      obtain _ | j2 := rp1
      · exact (fw_nn_no h).elim
      replace h := fw_nn_so h
      refine aw_pRN hK fw_c5 0 (by decide) rfl (fw_nsW hK hZ (w := Cond.fieldLinkNest "TugOfWar" 199 "TugOfWar$Puller" "sort" "LTugOfWar$Sort;" "TugOfWar") (by decide)) (fun _ h9 => h9) rfl (fun r => by cases r <;> exact ⟨rfl, rfl⟩) dX0_sortBy_52 h (fun L1 h => ?_)
      refine aw_goto (tgt := 68) hK dX0_sortBy_55 (by decide) ?_
      refine aw_iload_n hK 3 dX0_sortBy_68 rfl rfl ?_
      exact aw_iret hK dX0_sortBy_69 h hF
    · refine aw_aload_n hK 1 dX0_sortBy_16 rfl rfl ?_
      refine aw_getsR hK 0 (fw_zx hK hZ).1.1 (hK.ts _ q1005) (fun _ h9 => h9) dX0_sortBy_17 ?_
      refine aw_iload hK 4 dX0_sortBy_20 rfl ?_
      refine aw_srt hK hZ dX0_sortBy_22 h (fun r3 h => ?_)
      obtain _ | j5 := rp1
      · exact (fw_nn_no h).elim
      replace h := fw_nn_so h
      refine aw_pRN hK fw_c5 0 (by decide) rfl (fw_nsW hK hZ (w := Cond.fieldLinkNest "TugOfWar" 199 "TugOfWar$Puller" "sort" "LTugOfWar$Sort;" "TugOfWar") (by decide)) (fun _ h9 => h9) rfl (fun r => by cases r <;> exact ⟨rfl, rfl⟩) dX0_sortBy_23 h (fun L4 h => ?_)
      refine aw_iload_n hK 3 dX0_sortBy_26 rfl rfl ?_
      refine aw_aload_n hK 0 dX0_sortBy_27 rfl rfl ?_
      obtain ⟨hj, h⟩ := fw_is_h h
      refine aw_callV_i (n := 0) hK fw_c0 hj (fun _ _ _ _ q => fw_czx hZ (ct_X0_isSeen q)) (lw_V q985 q987 qs31 q94 q988) (by decide +kernel) (by decide) rfl rfl (Nat.le_of_ble_eq_true rfl) dX0_sortBy_28 h (fun v7 L6 _ _ h => ?_)
      refine aw_if_eq (tgt := 41) hK dX0_sortBy_31 (by decide) h (fun h => ?_) (fun h => ?_)
      · refine aw_iconst (v := (nI 0)) hK dX0_sortBy_41 rfl ?_
        exact aw_sub [0, 1, 2, 4] rfl (w_X0_sortBy_42 hK hZ hF (fun h => ih h) h)
      · refine aw_iconst (v := (nI 1)) hK dX0_sortBy_34 rfl ?_
        refine aw_iload hK 4 dX0_sortBy_35 rfl ?_
        refine aw_ishl hK dX0_sortBy_37 ?_
        refine aw_goto (tgt := 42) hK dX0_sortBy_38 (by decide) ?_
        exact aw_sub [0, 1, 2, 4] rfl (w_X0_sortBy_42 hK hZ hF (fun h => ih h) h)
set_option maxHeartbeats 4000000 in
set_option maxRecDepth 100000 in
theorem w_X0_sortBy_0 {K : Kx} {r9 : Int32} {L9 : LH} (hK : Ok K cX0_sortBy 6 RX0 14 309) (hZ : fw_isZ K) (hF : Fin K (some (.int)) (some (aI r9)) L9) {j0 : Nat} {rp1 : Option Nat} {L : LH} {mc ms : Nat} (h : f_X0_sortBy j0 rp1 L = some (r9, L9, mc, ms)) : AW K L mc ms 0 [(0, aR (some j0)), (1, aR rp1)] [] := by
  unfold f_X0_sortBy at h
  refine aw_aload_n hK 1 dX0_sortBy_0 rfl rfl ?_
  obtain _ | j2 := rp1
  · exact (fw_nn_no h).elim
  replace h := fw_nn_so h
  refine aw_gRN hK fw_c5 0 (by decide) rfl (fw_nsW hK hZ (w := Cond.fieldLinkNest "TugOfWar" 199 "TugOfWar$Puller" "sort" "LTugOfWar$Sort;" "TugOfWar") (by decide)) (fun _ h9 => h9) dX0_sortBy_1 h (fun r1 h => ?_)
  refine aw_astore_n (lv' := [(2, aR r1), (0, aR (some j0)), (1, aR (some j2))]) hK dX0_sortBy_4 rfl (by decide) rfl ?_
  refine aw_iconst (v := (nI 0)) hK dX0_sortBy_5 rfl ?_
  refine aw_istore_n (lv' := [(3, aI (nI 0)), (2, aR r1), (0, aR (some j0)), (1, aR (some j2))]) hK dX0_sortBy_6 rfl (by decide) rfl ?_
  refine aw_iconst (v := (nI 0)) hK dX0_sortBy_7 rfl ?_
  refine aw_istore (lv' := [(4, aI (nI 0)), (3, aI (nI 0)), (2, aR r1), (0, aR (some j0)), (1, aR (some j2))]) hK dX0_sortBy_8 (by decide) rfl ?_
  exact aw_sub [3, 4, 2, 1, 0] rfl (w_X0_sortBy_10 hK hZ hF h)
theorem ct_X0_sortBy {j0 : Nat} {rp1 : Option Nat} {L : LH} {r9 : Int32} {L9 : LH} {mc ms : Nat} (h : f_X0_sortBy j0 rp1 L = some (r9, L9, mc, ms)) : fw_Cx yX0_sortBy (wsW_ yX0_sortBy cX0_sortBy 6 (some (.int)) [(7, 50, 58, 0), (58, 60, 58, 0)]) 14 309 [aR (some j0), aR rp1] L (some (aI r9)) L9 mc ms :=
  fun b1 b2 => ct_ofH (own := RX0) fw_ZX_ok (by decide +kernel) rfl (Nat.le_of_ble_eq_true rfl) (fun K hZ hK hF hini => w_X0_sortBy_0 hK ⟨b1, b2, hZ⟩ hF h)
def f_X0_askOf_44 (rec15 : Nat → Int32 → Int32 → Int32 → LH → Rs Int32) (j0 : Nat) (x2 : Int32) (x4 : Int32) (sx0 : Int32) (L : LH) : Rs Int32 :=
  rec15 j0 x2 sx0 (x4 + (nI 1)) L
def f_X0_askOf_15 : Nat → Nat → Int32 → Int32 → Int32 → LH → Rs Int32
  | 0, _, _, _, _, _ => none
  | n + 1, j0, x2, x3, x4, L =>
    if (nI 24) ≤ x4 then (
      some (x3, L, 0, 0)
    ) else (
      fw_is 1 L j0 <|
      fw_cl (f_X0_alike j0 x2 x4 L) fun v2 L1 =>
      fw_is 1 L1 j0 <|
      fw_cl (f_X0_alike j0 x2 x3 L1) fun v4 L3 =>
      if v4 ≤ v2 then (
        f_X0_askOf_44 (f_X0_askOf_15 n) j0 x2 x4 x3 L3
      ) else (
        f_X0_askOf_44 (f_X0_askOf_15 n) j0 x2 x4 x4 L3
      )
    )
def f_X0_askOf (j0 : Nat) (x1 : Int32) (L : LH) : Rs Int32 :=
  fw_is 1 L j0 <|
  fw_cl (f_X0_pullerBy j0 x1 L) fun r2 L1 =>
  fw_is 1 L1 j0 <|
  fw_cl (f_X0_weightsBy j0 r2 L1) fun v4 L3 =>
  f_X0_askOf_15 fw_fuel j0 v4 (nI 0) (nI 1) L3
set_option maxHeartbeats 4000000 in
set_option maxRecDepth 100000 in
theorem w_X0_askOf_44 {K : Kx} {r9 : Int32} {L9 : LH} (hK : Ok K cX0_askOf 5 RX0 15 334) (hZ : fw_isZ K) (hF : Fin K (some (.int)) (some (aI r9)) L9) {rec15 : Nat → Int32 → Int32 → Int32 → LH → Rs Int32} (hrec15 : ∀ {j0 : Nat} {x2 : Int32} {x3 : Int32} {x4 : Int32} {L : LH} {mc ms : Nat}, rec15 j0 x2 x3 x4 L = some (r9, L9, mc, ms) → AW K L mc ms 15 [(0, aR (some j0)), (2, aI x2), (3, aI x3), (4, aI x4)] []) {j0 : Nat} {x2 : Int32} {x4 : Int32} {sx0 : Int32} {L : LH} {mc ms : Nat} (h : f_X0_askOf_44 rec15 j0 x2 x4 sx0 L = some (r9, L9, mc, ms)) : AW K L mc ms 44 [(0, aR (some j0)), (2, aI x2), (4, aI x4)] [aI sx0] := by
  unfold f_X0_askOf_44 at h
  refine aw_istore_n (lv' := [(3, aI sx0), (0, aR (some j0)), (2, aI x2), (4, aI x4)]) hK dX0_askOf_44 rfl (by decide) rfl ?_
  refine aw_iinc (v := (x4 + (nI 1))) (lv' := [(4, aI (x4 + (nI 1))), (3, aI sx0), (0, aR (some j0)), (2, aI x2)]) hK 3 dX0_askOf_45 rfl rfl (by decide) rfl ?_
  refine aw_goto (tgt := 15) hK dX0_askOf_48 (by decide) ?_
  exact aw_sub [2, 3, 1, 0] rfl (hrec15 h)
set_option maxHeartbeats 4000000 in
set_option maxRecDepth 100000 in
theorem w_X0_askOf_15 {K : Kx} {r9 : Int32} {L9 : LH} (hK : Ok K cX0_askOf 5 RX0 15 334) (hZ : fw_isZ K) (hF : Fin K (some (.int)) (some (aI r9)) L9) : ∀ {n : Nat} {j0 : Nat} {x2 : Int32} {x3 : Int32} {x4 : Int32} {L : LH} {mc ms : Nat}, f_X0_askOf_15 n j0 x2 x3 x4 L = some (r9, L9, mc, ms) → AW K L mc ms 15 [(0, aR (some j0)), (2, aI x2), (3, aI x3), (4, aI x4)] [] := by
  intro n
  induction n with
  | zero =>
    intro j0 x2 x3 x4 L mc ms h
    have h : (none : Rs Int32) = some (r9, L9, mc, ms) := h
    cases h
  | succ n ih =>
    intro j0 x2 x3 x4 L mc ms h
    unfold f_X0_askOf_15 at h
    refine aw_iload hK 3 dX0_askOf_15 rfl ?_
    refine aw_bipush (v := (nI 24)) hK dX0_askOf_17 rfl ?_
    refine aw_icmp_ge (tgt := 51) hK dX0_askOf_19 (by decide) h (fun h => ?_) (fun h => ?_)
    · refine aw_iload_n hK 2 dX0_askOf_51 rfl rfl ?_
      exact aw_iret hK dX0_askOf_52 h hF
    · refine aw_aload_n hK 0 dX0_askOf_22 rfl rfl ?_
      refine aw_iload_n hK 1 dX0_askOf_23 rfl rfl ?_
      refine aw_iload hK 3 dX0_askOf_24 rfl ?_
      obtain ⟨hj, h⟩ := fw_is_h h
      refine aw_callV_i (n := 2) hK fw_c0 hj (fun _ _ _ _ q => fw_czx hZ (ct_X0_alike q)) (lw_V q1014 q1016 qs36 q94 q1017) (by decide +kernel) (by decide) rfl rfl (Nat.le_of_ble_eq_true rfl) dX0_askOf_26 h (fun v2 L1 _ _ h => ?_)
      refine aw_aload_n hK 0 dX0_askOf_29 rfl rfl ?_
      refine aw_iload_n hK 1 dX0_askOf_30 rfl rfl ?_
      refine aw_iload_n hK 2 dX0_askOf_31 rfl rfl ?_
      obtain ⟨hj, h⟩ := fw_is_h h
      refine aw_callV_i (n := 2) hK fw_c0 hj (fun _ _ _ _ q => fw_czx hZ (ct_X0_alike q)) (lw_V q1014 q1016 qs36 q94 q1017) (by decide +kernel) (by decide) rfl rfl (Nat.le_of_ble_eq_true rfl) dX0_askOf_32 h (fun v4 L3 _ _ h => ?_)
      refine aw_icmp_ge (tgt := 43) hK dX0_askOf_35 (by decide) h (fun h => ?_) (fun h => ?_)
      · refine aw_iload_n hK 2 dX0_askOf_43 rfl rfl ?_
        exact aw_sub [0, 1, 3] rfl (w_X0_askOf_44 hK hZ hF (fun h => ih h) h)
      · refine aw_iload hK 3 dX0_askOf_38 rfl ?_
        refine aw_goto (tgt := 44) hK dX0_askOf_40 (by decide) ?_
        exact aw_sub [0, 1, 3] rfl (w_X0_askOf_44 hK hZ hF (fun h => ih h) h)
set_option maxHeartbeats 4000000 in
set_option maxRecDepth 100000 in
theorem w_X0_askOf_0 {K : Kx} {r9 : Int32} {L9 : LH} (hK : Ok K cX0_askOf 5 RX0 15 334) (hZ : fw_isZ K) (hF : Fin K (some (.int)) (some (aI r9)) L9) {j0 : Nat} {x1 : Int32} {L : LH} {mc ms : Nat} (h : f_X0_askOf j0 x1 L = some (r9, L9, mc, ms)) : AW K L mc ms 0 [(0, aR (some j0)), (1, aI x1)] [] := by
  unfold f_X0_askOf at h
  refine aw_aload_n hK 0 dX0_askOf_0 rfl rfl ?_
  refine aw_aload_n hK 0 dX0_askOf_1 rfl rfl ?_
  refine aw_iload_n hK 1 dX0_askOf_2 rfl rfl ?_
  obtain ⟨hj, h⟩ := fw_is_h h
  refine aw_callV_r (n := 1) hK fw_c0 hj (fun _ _ _ _ q => fw_czx hZ (ct_X0_pullerBy q)) (lw_V q665 q667 qs5 q94 q668) (by decide +kernel) (by decide) rfl rfl (Nat.le_of_ble_eq_true rfl) dX0_askOf_3 h (fun r2 L1 _ _ h => ?_)
  obtain ⟨hj, h⟩ := fw_is_h h
  refine aw_callQ_i hK (fun _ _ _ _ q => rq_VW (n := 1) hK (fw_rcvW hK fw_c0 hj) (fw_czx hZ (ct_X0_weightsBy q)) (lw_VW q997 q999 qs33 q94 q1000) (by decide +kernel) (by decide) rfl rfl (Nat.le_of_ble_eq_true rfl) dX0_askOf_6) (fw_mt (n := 2) rfl) h (fun v4 L3 _ _ h => ?_)
  refine aw_istore_n (lv' := [(2, aI v4), (0, aR (some j0)), (1, aI x1)]) hK dX0_askOf_9 rfl (by decide) rfl ?_
  refine aw_iconst (v := (nI 0)) hK dX0_askOf_10 rfl ?_
  refine aw_istore_n (lv' := [(3, aI (nI 0)), (2, aI v4), (0, aR (some j0)), (1, aI x1)]) hK dX0_askOf_11 rfl (by decide) rfl ?_
  refine aw_iconst (v := (nI 1)) hK dX0_askOf_12 rfl ?_
  refine aw_istore (lv' := [(4, aI (nI 1)), (3, aI (nI 0)), (2, aI v4), (0, aR (some j0)), (1, aI x1)]) hK dX0_askOf_13 (by decide) rfl ?_
  exact aw_sub [3, 2, 1, 0] rfl (w_X0_askOf_15 hK hZ hF h)
theorem ct_X0_askOf {j0 : Nat} {x1 : Int32} {L : LH} {r9 : Int32} {L9 : LH} {mc ms : Nat} (h : f_X0_askOf j0 x1 L = some (r9, L9, mc, ms)) : fw_Cx yX0_askOf (ws_ yX0_askOf cX0_askOf 5 (some (.int))) 15 334 [aR (some j0), aI x1] L (some (aI r9)) L9 mc ms :=
  fun b1 b2 => ct_of (own := RX0) fw_ZX_ok (by decide +kernel) rfl (Nat.le_of_ble_eq_true rfl) (fun K hZ hK hF hini => w_X0_askOf_0 hK ⟨b1, b2, hZ⟩ hF h)
def f_X0_chanceOf_80 (rec17 : Nat → Int32 → Int32 → Int32 → Int32 → Int64 → LH → Rs Int64) (rec49 : Nat → Int32 → Int32 → Int32 → Int32 → Int64 → Int64 → Int32 → LH → Rs Int64) (j0 : Nat) (x1 : Int32) (x2 : Int32) (x3 : Int32) (x4 : Int32) (y5 : Int64) (x9 : Int32) (sy0 : Int64) (sy1 : Int64) (L : LH) : Rs Int64 :=
  rec49 j0 x1 x2 x3 x4 y5 (sy1 * sy0) (x9 + (nI 1)) L
def f_X0_chanceOf_96 (rec17 : Nat → Int32 → Int32 → Int32 → Int32 → Int64 → LH → Rs Int64) (j0 : Nat) (x1 : Int32) (x2 : Int32) (x3 : Int32) (x4 : Int32) (y5 : Int64) (L : LH) : Rs Int64 :=
  fw_gI 1 L j0 16 fun v1 =>
  fw_pI 1 L j0 16 (v1 + (nI 1)) fun L2 =>
  rec17 j0 x1 x2 x3 x4 y5 L2
def f_X0_chanceOf_49 (rec17 : Nat → Int32 → Int32 → Int32 → Int32 → Int64 → LH → Rs Int64) : Nat → Nat → Int32 → Int32 → Int32 → Int32 → Int64 → Int64 → Int32 → LH → Rs Int64
  | 0, _, _, _, _, _, _, _, _, _ => none
  | n + 1, j0, x1, x2, x3, x4, y5, y7, x9, L =>
    if x4 ≤ x9 then (
      f_X0_chanceOf_96 rec17 j0 x1 x2 x3 x4 (y5 + y7) L
    ) else (
      fw_gI 1 L j0 16 fun v1 =>
      fw_cl (f_X0_isIn v1 x9 L) fun v3 L2 =>
      if v3 = 0 then (
        f_X0_chanceOf_80 rec17 (f_X0_chanceOf_49 rec17 n) j0 x1 x2 x3 x4 y5 x9 x1.toInt64 y7 L2
      ) else (
        f_X0_chanceOf_80 rec17 (f_X0_chanceOf_49 rec17 n) j0 x1 x2 x3 x4 y5 x9 ((nI 16) - x1).toInt64 y7 L2
      )
    )
def f_X0_chanceOf_17 : Nat → Nat → Int32 → Int32 → Int32 → Int32 → Int64 → LH → Rs Int64
  | 0, _, _, _, _, _, _, _ => none
  | n + 1, j0, x1, x2, x3, x4, y5, L =>
    fw_gI 1 L j0 16 fun v1 =>
    if ((nI 1) <<< (x4 &&& 31)) ≤ v1 then (
      fw_pI 1 L j0 16 (nI 0) fun L2 =>
      fw_cl (f_X0_part y5 ((1 : Int64) <<< (((nI 4) * x4).toInt64 &&& 63)) x3 L2) fun v4 L3 =>
      some (v4, L3, 0, 0)
    ) else (
      fw_is 1 L j0 <|
      fw_cl (f_X0_find j0 L) fun _ L5 =>
      fw_is 1 L5 j0 <|
      fw_cl (f_X0_winner j0 L5) fun v7 L6 =>
      if v7 = x2 then (
        f_X0_chanceOf_49 (f_X0_chanceOf_17 n) fw_fuel j0 x1 x2 x3 x4 y5 (1 : Int64) (nI 0) L6
      ) else (
        f_X0_chanceOf_96 (f_X0_chanceOf_17 n) j0 x1 x2 x3 x4 y5 L6
      )
    )
def f_X0_chanceOf (j0 : Nat) (x1 : Int32) (x2 : Int32) (x3 : Int32) (L : LH) : Rs Int64 :=
  fw_gR 1 L j0 5 fun r1 =>
  fw_nn r1 fun j4 =>
  fw_is 5 L j4 <|
  fw_cl (f_J2_size j4 L) fun v3 L2 =>
  fw_pI 1 L2 j0 16 (nI 0) fun L5 =>
  f_X0_chanceOf_17 fw_fuel j0 x1 x2 x3 v3 (0 : Int64) L5
set_option maxHeartbeats 4000000 in
set_option maxRecDepth 100000 in
theorem w_X0_chanceOf_80 {K : Kx} {r9 : Int64} {L9 : LH} (hK : Ok K cX0_chanceOf 11 RX0 132 3037) (hZ : fw_isZ K) (hF : Fin K (some (.long)) (some (aL r9)) L9) {rec17 : Nat → Int32 → Int32 → Int32 → Int32 → Int64 → LH → Rs Int64} (hrec17 : ∀ {j0 : Nat} {x1 : Int32} {x2 : Int32} {x3 : Int32} {x4 : Int32} {y5 : Int64} {L : LH} {mc ms : Nat}, rec17 j0 x1 x2 x3 x4 y5 L = some (r9, L9, mc, ms) → AW K L mc ms 17 [(0, aR (some j0)), (1, aI x1), (2, aI x2), (3, aI x3), (4, aI x4), (5, aL y5)] []) {rec49 : Nat → Int32 → Int32 → Int32 → Int32 → Int64 → Int64 → Int32 → LH → Rs Int64} (hrec49 : ∀ {j0 : Nat} {x1 : Int32} {x2 : Int32} {x3 : Int32} {x4 : Int32} {y5 : Int64} {y7 : Int64} {x9 : Int32} {L : LH} {mc ms : Nat}, rec49 j0 x1 x2 x3 x4 y5 y7 x9 L = some (r9, L9, mc, ms) → AW K L mc ms 49 [(0, aR (some j0)), (1, aI x1), (2, aI x2), (3, aI x3), (4, aI x4), (5, aL y5), (7, aL y7), (9, aI x9)] []) {j0 : Nat} {x1 : Int32} {x2 : Int32} {x3 : Int32} {x4 : Int32} {y5 : Int64} {x9 : Int32} {sy0 : Int64} {sy1 : Int64} {L : LH} {mc ms : Nat} (h : f_X0_chanceOf_80 rec17 rec49 j0 x1 x2 x3 x4 y5 x9 sy0 sy1 L = some (r9, L9, mc, ms)) : AW K L mc ms 80 [(0, aR (some j0)), (1, aI x1), (2, aI x2), (3, aI x3), (4, aI x4), (5, aL y5), (9, aI x9)] [aL sy0, aL sy1] := by
  unfold f_X0_chanceOf_80 at h
  refine aw_lmul hK dX0_chanceOf_80 ?_
  refine aw_lstore (lv' := [(7, aL (sy1 * sy0)), (0, aR (some j0)), (1, aI x1), (2, aI x2), (3, aI x3), (4, aI x4), (5, aL y5), (9, aI x9)]) hK dX0_chanceOf_81 (by decide) rfl ?_
  refine aw_iinc (v := (x9 + (nI 1))) (lv' := [(9, aI (x9 + (nI 1))), (7, aL (sy1 * sy0)), (0, aR (some j0)), (1, aI x1), (2, aI x2), (3, aI x3), (4, aI x4), (5, aL y5)]) hK 7 dX0_chanceOf_83 rfl rfl (by decide) rfl ?_
  refine aw_goto (tgt := 49) hK dX0_chanceOf_86 (by decide) ?_
  exact aw_sub [2, 3, 4, 5, 6, 7, 1, 0] rfl (hrec49 h)
set_option maxHeartbeats 4000000 in
set_option maxRecDepth 100000 in
theorem w_X0_chanceOf_96 {K : Kx} {r9 : Int64} {L9 : LH} (hK : Ok K cX0_chanceOf 11 RX0 132 3037) (hZ : fw_isZ K) (hF : Fin K (some (.long)) (some (aL r9)) L9) {rec17 : Nat → Int32 → Int32 → Int32 → Int32 → Int64 → LH → Rs Int64} (hrec17 : ∀ {j0 : Nat} {x1 : Int32} {x2 : Int32} {x3 : Int32} {x4 : Int32} {y5 : Int64} {L : LH} {mc ms : Nat}, rec17 j0 x1 x2 x3 x4 y5 L = some (r9, L9, mc, ms) → AW K L mc ms 17 [(0, aR (some j0)), (1, aI x1), (2, aI x2), (3, aI x3), (4, aI x4), (5, aL y5)] []) {j0 : Nat} {x1 : Int32} {x2 : Int32} {x3 : Int32} {x4 : Int32} {y5 : Int64} {L : LH} {mc ms : Nat} (h : f_X0_chanceOf_96 rec17 j0 x1 x2 x3 x4 y5 L = some (r9, L9, mc, ms)) : AW K L mc ms 96 [(0, aR (some j0)), (1, aI x1), (2, aI x2), (3, aI x3), (4, aI x4), (5, aL y5)] [] := by
  unfold f_X0_chanceOf_96 at h
  refine aw_aload_n hK 0 dX0_chanceOf_96 rfl rfl ?_
  refine aw_dup hK dX0_chanceOf_97 rfl ?_
  refine aw_gI hK fw_c0 16 (by decide) rfl q242 (fun _ h9 => h9) dX0_chanceOf_98 h (fun v1 h => ?_)
  refine aw_iconst (v := (nI 1)) hK dX0_chanceOf_101 rfl ?_
  refine aw_iadd hK dX0_chanceOf_102 ?_
  refine aw_pI hK fw_c0 16 (by decide) rfl q242 (fun _ h9 => h9) rfl rfl rfl dX0_chanceOf_103 h (fun L2 h => ?_)
  refine aw_goto (tgt := 17) hK dX0_chanceOf_106 (by decide) ?_
  exact hrec17 h
set_option maxHeartbeats 4000000 in
set_option maxRecDepth 100000 in
theorem w_X0_chanceOf_49 {K : Kx} {r9 : Int64} {L9 : LH} (hK : Ok K cX0_chanceOf 11 RX0 132 3037) (hZ : fw_isZ K) (hF : Fin K (some (.long)) (some (aL r9)) L9) {rec17 : Nat → Int32 → Int32 → Int32 → Int32 → Int64 → LH → Rs Int64} (hrec17 : ∀ {j0 : Nat} {x1 : Int32} {x2 : Int32} {x3 : Int32} {x4 : Int32} {y5 : Int64} {L : LH} {mc ms : Nat}, rec17 j0 x1 x2 x3 x4 y5 L = some (r9, L9, mc, ms) → AW K L mc ms 17 [(0, aR (some j0)), (1, aI x1), (2, aI x2), (3, aI x3), (4, aI x4), (5, aL y5)] []) : ∀ {n : Nat} {j0 : Nat} {x1 : Int32} {x2 : Int32} {x3 : Int32} {x4 : Int32} {y5 : Int64} {y7 : Int64} {x9 : Int32} {L : LH} {mc ms : Nat}, f_X0_chanceOf_49 rec17 n j0 x1 x2 x3 x4 y5 y7 x9 L = some (r9, L9, mc, ms) → AW K L mc ms 49 [(0, aR (some j0)), (1, aI x1), (2, aI x2), (3, aI x3), (4, aI x4), (5, aL y5), (7, aL y7), (9, aI x9)] [] := by
  intro n
  induction n with
  | zero =>
    intro j0 x1 x2 x3 x4 y5 y7 x9 L mc ms h
    have h : (none : Rs Int64) = some (r9, L9, mc, ms) := h
    cases h
  | succ n ih =>
    intro j0 x1 x2 x3 x4 y5 y7 x9 L mc ms h
    unfold f_X0_chanceOf_49 at h
    refine aw_iload hK 7 dX0_chanceOf_49 rfl ?_
    refine aw_iload hK 4 dX0_chanceOf_51 rfl ?_
    refine aw_icmp_ge (tgt := 89) hK dX0_chanceOf_53 (by decide) h (fun h => ?_) (fun h => ?_)
    · refine aw_lload hK 5 dX0_chanceOf_89 rfl ?_
      refine aw_lload hK 6 dX0_chanceOf_91 rfl ?_
      refine aw_ladd hK dX0_chanceOf_93 ?_
      refine aw_lstore (lv' := [(5, aL (y5 + y7)), (0, aR (some j0)), (1, aI x1), (2, aI x2), (3, aI x3), (4, aI x4), (7, aL y7), (9, aI x9)]) hK dX0_chanceOf_94 (by decide) rfl ?_
      exact aw_sub [1, 2, 3, 4, 5, 0] rfl (w_X0_chanceOf_96 hK hZ hF (fun h => hrec17 h) h)
    · refine aw_lload hK 6 dX0_chanceOf_56 rfl ?_
      refine aw_aload_n hK 0 dX0_chanceOf_58 rfl rfl ?_
      refine aw_gI hK fw_c0 16 (by decide) rfl q242 (fun _ h9 => h9) dX0_chanceOf_59 h (fun v1 h => ?_)
      refine aw_iload hK 7 dX0_chanceOf_62 rfl ?_
      refine aw_callS_i (n := 2) hK (fun _ _ _ _ q => fw_czx hZ (ct_X0_isIn q)) (lw_S q799 q800 q94 q801) (by decide +kernel) (by decide) rfl rfl (Nat.le_of_ble_eq_true rfl) dX0_chanceOf_64 h (fun v3 L2 _ _ h => ?_)
      refine aw_if_eq (tgt := 78) hK dX0_chanceOf_67 (by decide) h (fun h => ?_) (fun h => ?_)
      · refine aw_iload_n hK 1 dX0_chanceOf_78 rfl rfl ?_
        refine aw_i2l hK dX0_chanceOf_79 ?_
        exact aw_sub [0, 1, 2, 3, 4, 5, 7] rfl (w_X0_chanceOf_80 hK hZ hF (fun h => hrec17 h) (fun h => ih h) h)
      · refine aw_bipush (v := (nI 16)) hK dX0_chanceOf_70 rfl ?_
        refine aw_iload_n hK 1 dX0_chanceOf_72 rfl rfl ?_
        refine aw_isub hK dX0_chanceOf_73 ?_
        refine aw_i2l hK dX0_chanceOf_74 ?_
        refine aw_goto (tgt := 80) hK dX0_chanceOf_75 (by decide) ?_
        exact aw_sub [0, 1, 2, 3, 4, 5, 7] rfl (w_X0_chanceOf_80 hK hZ hF (fun h => hrec17 h) (fun h => ih h) h)
set_option maxHeartbeats 4000000 in
set_option maxRecDepth 100000 in
theorem w_X0_chanceOf_17 {K : Kx} {r9 : Int64} {L9 : LH} (hK : Ok K cX0_chanceOf 11 RX0 132 3037) (hZ : fw_isZ K) (hF : Fin K (some (.long)) (some (aL r9)) L9) : ∀ {n : Nat} {j0 : Nat} {x1 : Int32} {x2 : Int32} {x3 : Int32} {x4 : Int32} {y5 : Int64} {L : LH} {mc ms : Nat}, f_X0_chanceOf_17 n j0 x1 x2 x3 x4 y5 L = some (r9, L9, mc, ms) → AW K L mc ms 17 [(0, aR (some j0)), (1, aI x1), (2, aI x2), (3, aI x3), (4, aI x4), (5, aL y5)] [] := by
  intro n
  induction n with
  | zero =>
    intro j0 x1 x2 x3 x4 y5 L mc ms h
    have h : (none : Rs Int64) = some (r9, L9, mc, ms) := h
    cases h
  | succ n ih =>
    intro j0 x1 x2 x3 x4 y5 L mc ms h
    unfold f_X0_chanceOf_17 at h
    refine aw_aload_n hK 0 dX0_chanceOf_17 rfl rfl ?_
    refine aw_gI hK fw_c0 16 (by decide) rfl q242 (fun _ h9 => h9) dX0_chanceOf_18 h (fun v1 h => ?_)
    refine aw_iconst (v := (nI 1)) hK dX0_chanceOf_21 rfl ?_
    refine aw_iload hK 4 dX0_chanceOf_22 rfl ?_
    refine aw_ishl hK dX0_chanceOf_24 ?_
    refine aw_icmp_ge (tgt := 109) hK dX0_chanceOf_25 (by decide) h (fun h => ?_) (fun h => ?_)
    · refine aw_aload_n hK 0 dX0_chanceOf_109 rfl rfl ?_
      refine aw_iconst (v := (nI 0)) hK dX0_chanceOf_110 rfl ?_
      refine aw_pI hK fw_c0 16 (by decide) rfl q242 (fun _ h9 => h9) rfl rfl rfl dX0_chanceOf_111 h (fun L2 h => ?_)
      refine aw_goto (tgt := 127) hK dX0_chanceOf_114 (by decide) ?_
      refine aw_lload hK 5 dX0_chanceOf_127 rfl ?_
      refine aw_lconst (v := 1) hK dX0_chanceOf_129 rfl ?_
      refine aw_iconst (v := (nI 4)) hK dX0_chanceOf_130 rfl ?_
      refine aw_iload hK 4 dX0_chanceOf_131 rfl ?_
      refine aw_imul hK dX0_chanceOf_133 ?_
      refine aw_lshl hK dX0_chanceOf_134 ?_
      refine aw_iload_n hK 3 dX0_chanceOf_135 rfl rfl ?_
      refine aw_callS_l (n := 3) hK (fun _ _ _ _ q => fw_czx hZ (ct_X0_part q)) (lw_S q1027 q1028 q94 q1029) (by decide +kernel) (by decide) rfl rfl (Nat.le_of_ble_eq_true rfl) dX0_chanceOf_136 h (fun v4 L3 _ _ h => ?_)
      exact aw_lret hK dX0_chanceOf_139 h hF
    · refine aw_aload_n hK 0 dX0_chanceOf_28 rfl rfl ?_
      obtain ⟨hj, h⟩ := fw_is_h h
      refine aw_callV_v (n := 0) hK fw_c0 hj (fun _ _ _ _ q => fw_czx hZ (ct_X0_find q)) (lw_V q781 q783 qs9 q94 q784) (by decide +kernel) (by decide) rfl rfl (Nat.le_of_ble_eq_true rfl) dX0_chanceOf_29 h (fun _ L5 _ _ h => ?_)
      refine aw_aload_n hK 0 dX0_chanceOf_32 rfl rfl ?_
      obtain ⟨hj, h⟩ := fw_is_h h
      refine aw_callV_i (n := 0) hK fw_c0 hj (fun _ _ _ _ q => fw_czx hZ (ct_X0_winner q)) (lw_V q886 q888 qs20 q94 q889) (by decide +kernel) (by decide) rfl rfl (Nat.le_of_ble_eq_true rfl) dX0_chanceOf_33 h (fun v7 L6 _ _ h => ?_)
      refine aw_iload_n hK 2 dX0_chanceOf_36 rfl rfl ?_
      refine aw_icmp_eq (tgt := 43) hK dX0_chanceOf_37 (by decide) h (fun h => ?_) (fun h => ?_)
      · refine aw_lconst (v := 1) hK dX0_chanceOf_43 rfl ?_
        refine aw_lstore (lv' := [(7, aL (1 : Int64)), (0, aR (some j0)), (1, aI x1), (2, aI x2), (3, aI x3), (4, aI x4), (5, aL y5)]) hK dX0_chanceOf_44 (by decide) rfl ?_
        refine aw_iconst (v := (nI 0)) hK dX0_chanceOf_46 rfl ?_
        refine aw_istore (lv' := [(9, aI (nI 0)), (7, aL (1 : Int64)), (0, aR (some j0)), (1, aI x1), (2, aI x2), (3, aI x3), (4, aI x4), (5, aL y5)]) hK dX0_chanceOf_47 (by decide) rfl ?_
        exact aw_sub [2, 3, 4, 5, 6, 7, 1, 0] rfl (w_X0_chanceOf_49 hK hZ hF (fun h => ih h) h)
      · refine aw_goto (tgt := 96) hK dX0_chanceOf_40 (by decide) ?_
        exact w_X0_chanceOf_96 hK hZ hF (fun h => ih h) h
set_option maxHeartbeats 4000000 in
set_option maxRecDepth 100000 in
theorem w_X0_chanceOf_0 {K : Kx} {r9 : Int64} {L9 : LH} (hK : Ok K cX0_chanceOf 11 RX0 132 3037) (hZ : fw_isZ K) (hF : Fin K (some (.long)) (some (aL r9)) L9) {j0 : Nat} {x1 : Int32} {x2 : Int32} {x3 : Int32} {L : LH} {mc ms : Nat} (h : f_X0_chanceOf j0 x1 x2 x3 L = some (r9, L9, mc, ms)) : AW K L mc ms 0 [(0, aR (some j0)), (1, aI x1), (2, aI x2), (3, aI x3)] [] := by
  unfold f_X0_chanceOf at h
  refine aw_aload_n hK 0 dX0_chanceOf_0 rfl rfl ?_
  refine aw_gR hK fw_c0 5 (by decide) rfl q231 (fun _ h9 => h9) dX0_chanceOf_1 h (fun r1 h => ?_)
  obtain _ | j4 := r1
  · exact (fw_nn_no h).elim
  replace h := fw_nn_so h
  obtain ⟨hj, h⟩ := fw_is_h h
  refine aw_callV_i (n := 0) hK fw_c4 hj (fun _ _ _ _ q => fw_czx hZ (ct_J2_size q)) (lw_V q730 q385 q386 q99 q387) (by decide +kernel) (by decide) rfl rfl (Nat.le_of_ble_eq_true rfl) dX0_chanceOf_4 h (fun v3 L2 _ _ h => ?_)
  refine aw_istore (lv' := [(4, aI v3), (0, aR (some j0)), (1, aI x1), (2, aI x2), (3, aI x3)]) hK dX0_chanceOf_7 (by decide) rfl ?_
  refine aw_lconst (v := 0) hK dX0_chanceOf_9 rfl ?_
  refine aw_lstore (lv' := [(5, aL (0 : Int64)), (4, aI v3), (0, aR (some j0)), (1, aI x1), (2, aI x2), (3, aI x3)]) hK dX0_chanceOf_10 (by decide) rfl ?_
  refine aw_aload_n hK 2 dX0_chanceOf_12 rfl rfl ?_
  refine aw_iconst (v := (nI 0)) hK dX0_chanceOf_13 rfl ?_
  refine aw_pI hK fw_c0 16 (by decide) rfl q242 (fun _ h9 => h9) rfl rfl rfl dX0_chanceOf_14 h (fun L5 h => ?_)
  exact aw_sub [2, 3, 4, 5, 1, 0] rfl (w_X0_chanceOf_17 hK hZ hF h)
theorem ct_X0_chanceOf {j0 : Nat} {x1 : Int32} {x2 : Int32} {x3 : Int32} {L : LH} {r9 : Int64} {L9 : LH} {mc ms : Nat} (h : f_X0_chanceOf j0 x1 x2 x3 L = some (r9, L9, mc, ms)) : fw_Cx yX0_chanceOf (wsW_ yX0_chanceOf cX0_chanceOf 11 (some (.long)) [(12, 109, 117, 0), (117, 119, 117, 0)]) 132 3037 [aR (some j0), aI x1, aI x2, aI x3] L (some (aL r9)) L9 mc ms :=
  fun b1 b2 => ct_ofH (own := RX0) fw_ZX_ok (by decide +kernel) rfl (Nat.le_of_ble_eq_true rfl) (fun K hZ hK hF hini => w_X0_chanceOf_0 hK ⟨b1, b2, hZ⟩ hF h)
def f_X0_yearsOf_68 (rec42 : Nat → Int32 → Int32 → Option Nat → Int32 → LH → Rs Int32) (j0 : Nat) (x2 : Int32) (x3 : Int32) (rp4 : Option Nat) (x5 : Int32) (sx0 : Int32) (sx1 : Int32) (sr2 : Option Nat) (L : LH) : Rs Int32 :=
  fw_nn sr2 fun j1 =>
  fw_wr 100 L j1 sx1 sx0 fun L2 =>
  rec42 j0 x2 x3 rp4 (x5 + (nI 1)) L2
def f_X0_yearsOf_94 (j0 : Nat) (rp4 : Option Nat) (sx0 : Int32) (L : LH) : Rs Int32 :=
  fw_gR 1 L j0 23 fun r1 =>
  fw_nn r1 fun j2 =>
  fw_nn rp4 fun j3 =>
  fw_cp 0 L j2 (nI 0) j3 (nI 0) (nI 24) fun L4 =>
  some (sx0, L4, 0, 0)
def f_X0_yearsOf_42 : Nat → Nat → Int32 → Int32 → Option Nat → Int32 → LH → Rs Int32
  | 0, _, _, _, _, _, _ => none
  | n + 1, j0, x2, x3, rp4, x5, L =>
    if (nI 24) ≤ x5 then (
      fw_is 1 L j0 <|
      fw_cl (f_X0_find j0 L) fun _ L1 =>
      if x3 = 0 then (
        fw_gI 1 L1 j0 6 fun v4 =>
        f_X0_yearsOf_94 j0 rp4 v4 L1
      ) else (
        fw_is 1 L1 j0 <|
        fw_cl (f_X0_winner j0 L1) fun v3 L2 =>
        f_X0_yearsOf_94 j0 rp4 v3 L2
      )
    ) else (
      if x2 ≤ x5 then (
        f_X0_yearsOf_68 (f_X0_yearsOf_42 n) j0 x2 x3 rp4 x5 (nI 1) x5 rp4 L
      ) else (
        fw_is 1 L j0 <|
        fw_cl (f_X0_lot j0 (nI 3) L) fun v6 L5 =>
        f_X0_yearsOf_68 (f_X0_yearsOf_42 n) j0 x2 x3 rp4 x5 v6 x5 rp4 L5
      )
    )
def f_X0_yearsOf (j0 : Nat) (x1 : Int32) (x2 : Int32) (x3 : Int32) (L : LH) : Rs Int32 :=
  fw_gR 1 L j0 2 fun r1 =>
  fw_nn r1 fun j2 =>
  fw_rq 107 L j2 (nI 1) fun r3 =>
  fw_nn r3 fun j6 =>
  fw_is 3 L j6 <|
  fw_cl (f_X1_read j6 L) fun v5 L4 =>
  fw_gR 1 L4 j0 2 fun r7 =>
  fw_nn r7 fun j8 =>
  fw_rq 107 L4 j8 (nI 1) fun r9 =>
  fw_nn r9 fun j11 =>
  fw_gR 3 L4 j11 5 fun r10 =>
  fw_gR 1 L4 j0 23 fun r12 =>
  fw_nn r10 fun j13 =>
  fw_nn r12 fun j14 =>
  fw_cp 0 L4 j13 (nI 0) j14 (nI 0) (nI 24) fun L15 =>
  fw_pI 1 L15 j0 22 x1 fun L16 =>
  f_X0_yearsOf_42 fw_fuel j0 x2 x3 (some j13) (nI 0) L16
set_option maxHeartbeats 4000000 in
set_option maxRecDepth 100000 in
theorem w_X0_yearsOf_68 {K : Kx} {r9 : Int32} {L9 : LH} (hK : Ok K cX0_yearsOf 7 RX0 13 287) (hZ : fw_isZ K) (hF : Fin K (some (.int)) (some (aI r9)) L9) {rec42 : Nat → Int32 → Int32 → Option Nat → Int32 → LH → Rs Int32} (hrec42 : ∀ {j0 : Nat} {x2 : Int32} {x3 : Int32} {rp4 : Option Nat} {x5 : Int32} {L : LH} {mc ms : Nat}, rec42 j0 x2 x3 rp4 x5 L = some (r9, L9, mc, ms) → AW K L mc ms 42 [(0, aR (some j0)), (2, aI x2), (3, aI x3), (4, aR rp4), (5, aI x5)] []) {j0 : Nat} {x2 : Int32} {x3 : Int32} {rp4 : Option Nat} {x5 : Int32} {sx0 : Int32} {sx1 : Int32} {sr2 : Option Nat} {L : LH} {mc ms : Nat} (h : f_X0_yearsOf_68 rec42 j0 x2 x3 rp4 x5 sx0 sx1 sr2 L = some (r9, L9, mc, ms)) : AW K L mc ms 68 [(0, aR (some j0)), (2, aI x2), (3, aI x3), (4, aR rp4), (5, aI x5)] [aI sx0, aI sx1, aR sr2] := by
  unfold f_X0_yearsOf_68 at h
  obtain _ | j1 := sr2
  · exact (fw_nn_no h).elim
  replace h := fw_nn_so h
  refine aw_iast hK dX0_yearsOf_68 h (fun L2 h => ?_)
  refine aw_iinc (v := (x5 + (nI 1))) (lv' := [(5, aI (x5 + (nI 1))), (0, aR (some j0)), (2, aI x2), (3, aI x3), (4, aR rp4)]) hK 4 dX0_yearsOf_69 rfl rfl (by decide) rfl ?_
  refine aw_goto (tgt := 42) hK dX0_yearsOf_72 (by decide) ?_
  exact aw_sub [1, 2, 3, 4, 0] rfl (hrec42 h)
set_option maxHeartbeats 4000000 in
set_option maxRecDepth 100000 in
theorem w_X0_yearsOf_94 {K : Kx} {r9 : Int32} {L9 : LH} (hK : Ok K cX0_yearsOf 7 RX0 13 287) (hZ : fw_isZ K) (hF : Fin K (some (.int)) (some (aI r9)) L9) {j0 : Nat} {rp4 : Option Nat} {sx0 : Int32} {L : LH} {mc ms : Nat} (h : f_X0_yearsOf_94 j0 rp4 sx0 L = some (r9, L9, mc, ms)) : AW K L mc ms 94 [(0, aR (some j0)), (4, aR rp4)] [aI sx0] := by
  unfold f_X0_yearsOf_94 at h
  refine aw_istore (lv' := [(5, aI sx0), (0, aR (some j0)), (4, aR rp4)]) hK dX0_yearsOf_94 (by decide) rfl ?_
  refine aw_aload_n hK 1 dX0_yearsOf_96 rfl rfl ?_
  refine aw_gR hK fw_c0 23 (by decide) rfl q249 (fun _ h9 => h9) dX0_yearsOf_97 h (fun r1 h => ?_)
  refine aw_iconst (v := (nI 0)) hK dX0_yearsOf_100 rfl ?_
  refine aw_aload hK 2 dX0_yearsOf_101 rfl ?_
  refine aw_iconst (v := (nI 0)) hK dX0_yearsOf_103 rfl ?_
  refine aw_bipush (v := (nI 24)) hK dX0_yearsOf_104 rfl ?_
  obtain _ | j2 := r1
  · exact (fw_nn_no h).elim
  replace h := fw_nn_so h
  obtain _ | j3 := rp4
  · exact (fw_nn_no h).elim
  replace h := fw_nn_so h
  refine aw_copy hK 0 (by decide) q873 q635 q634 q115 dX0_yearsOf_106 ⟨by decide, Nat.le_of_ble_eq_true rfl⟩ h (fun L4 h => ?_)
  refine aw_iload hK 0 dX0_yearsOf_109 rfl ?_
  exact aw_iret hK dX0_yearsOf_111 h hF
set_option maxHeartbeats 4000000 in
set_option maxRecDepth 100000 in
theorem w_X0_yearsOf_42 {K : Kx} {r9 : Int32} {L9 : LH} (hK : Ok K cX0_yearsOf 7 RX0 13 287) (hZ : fw_isZ K) (hF : Fin K (some (.int)) (some (aI r9)) L9) : ∀ {n : Nat} {j0 : Nat} {x2 : Int32} {x3 : Int32} {rp4 : Option Nat} {x5 : Int32} {L : LH} {mc ms : Nat}, f_X0_yearsOf_42 n j0 x2 x3 rp4 x5 L = some (r9, L9, mc, ms) → AW K L mc ms 42 [(0, aR (some j0)), (2, aI x2), (3, aI x3), (4, aR rp4), (5, aI x5)] [] := by
  intro n
  induction n with
  | zero =>
    intro j0 x2 x3 rp4 x5 L mc ms h
    have h : (none : Rs Int32) = some (r9, L9, mc, ms) := h
    cases h
  | succ n ih =>
    intro j0 x2 x3 rp4 x5 L mc ms h
    unfold f_X0_yearsOf_42 at h
    refine aw_iload hK 4 dX0_yearsOf_42 rfl ?_
    refine aw_bipush (v := (nI 24)) hK dX0_yearsOf_44 rfl ?_
    refine aw_icmp_ge (tgt := 75) hK dX0_yearsOf_46 (by decide) h (fun h => ?_) (fun h => ?_)
    · refine aw_aload_n hK 0 dX0_yearsOf_75 rfl rfl ?_
      obtain ⟨hj, h⟩ := fw_is_h h
      refine aw_callV_v (n := 0) hK fw_c0 hj (fun _ _ _ _ q => fw_czx hZ (ct_X0_find q)) (lw_V q781 q783 qs9 q94 q784) (by decide +kernel) (by decide) rfl rfl (Nat.le_of_ble_eq_true rfl) dX0_yearsOf_76 h (fun _ L1 _ _ h => ?_)
      refine aw_iload_n hK 2 dX0_yearsOf_79 rfl rfl ?_
      refine aw_if_ne (tgt := 90) hK dX0_yearsOf_80 (by decide) h (fun h => ?_) (fun h => ?_)
      · refine aw_aload_n hK 0 dX0_yearsOf_90 rfl rfl ?_
        obtain ⟨hj, h⟩ := fw_is_h h
        refine aw_callV_i (n := 0) hK fw_c0 hj (fun _ _ _ _ q => fw_czx hZ (ct_X0_winner q)) (lw_V q886 q888 qs20 q94 q889) (by decide +kernel) (by decide) rfl rfl (Nat.le_of_ble_eq_true rfl) dX0_yearsOf_91 h (fun v3 L2 _ _ h => ?_)
        exact aw_sub [0, 3] rfl (w_X0_yearsOf_94 hK hZ hF h)
      · refine aw_aload_n hK 0 dX0_yearsOf_83 rfl rfl ?_
        refine aw_gI hK fw_c0 6 (by decide) rfl q232 (fun _ h9 => h9) dX0_yearsOf_84 h (fun v4 h => ?_)
        refine aw_goto (tgt := 94) hK dX0_yearsOf_87 (by decide) ?_
        exact aw_sub [0, 3] rfl (w_X0_yearsOf_94 hK hZ hF h)
    · refine aw_aload hK 3 dX0_yearsOf_49 rfl ?_
      refine aw_iload hK 4 dX0_yearsOf_51 rfl ?_
      refine aw_iload hK 4 dX0_yearsOf_53 rfl ?_
      refine aw_iload_n hK 1 dX0_yearsOf_55 rfl rfl ?_
      refine aw_icmp_ge (tgt := 67) hK dX0_yearsOf_56 (by decide) h (fun h => ?_) (fun h => ?_)
      · refine aw_iconst (v := (nI 1)) hK dX0_yearsOf_67 rfl ?_
        exact w_X0_yearsOf_68 hK hZ hF (fun h => ih h) h
      · refine aw_aload_n hK 0 dX0_yearsOf_59 rfl rfl ?_
        refine aw_iconst (v := (nI 3)) hK dX0_yearsOf_60 rfl ?_
        obtain ⟨hj, h⟩ := fw_is_h h
        refine aw_callV_i (n := 1) hK fw_c0 hj (fun _ _ _ _ q => fw_czx hZ (ct_X0_lot q)) (lw_V q1045 q1047 qs39 q94 q1048) (by decide +kernel) (by decide) rfl rfl (Nat.le_of_ble_eq_true rfl) dX0_yearsOf_61 h (fun v6 L5 _ _ h => ?_)
        refine aw_goto (tgt := 68) hK dX0_yearsOf_64 (by decide) ?_
        exact w_X0_yearsOf_68 hK hZ hF (fun h => ih h) h
set_option maxHeartbeats 4000000 in
set_option maxRecDepth 100000 in
theorem w_X0_yearsOf_0 {K : Kx} {r9 : Int32} {L9 : LH} (hK : Ok K cX0_yearsOf 7 RX0 13 287) (hZ : fw_isZ K) (hF : Fin K (some (.int)) (some (aI r9)) L9) {j0 : Nat} {x1 : Int32} {x2 : Int32} {x3 : Int32} {L : LH} {mc ms : Nat} (h : f_X0_yearsOf j0 x1 x2 x3 L = some (r9, L9, mc, ms)) : AW K L mc ms 0 [(0, aR (some j0)), (1, aI x1), (2, aI x2), (3, aI x3)] [] := by
  unfold f_X0_yearsOf at h
  refine aw_aload_n hK 0 dX0_yearsOf_0 rfl rfl ?_
  refine aw_gR hK fw_c0 2 (by decide) rfl q228 (fun _ h9 => h9) dX0_yearsOf_1 h (fun r1 h => ?_)
  refine aw_iconst (v := (nI 1)) hK dX0_yearsOf_4 rfl ?_
  obtain _ | j2 := r1
  · exact (fw_nn_no h).elim
  replace h := fw_nn_so h
  refine aw_aald hK 7 (by decide) rfl dX0_yearsOf_5 h (fun r3 h => ?_)
  obtain _ | j6 := r3
  · exact (fw_nn_no h).elim
  replace h := fw_nn_so h
  obtain ⟨hj, h⟩ := fw_is_h h
  refine aw_callQ_i hK (fun _ _ _ _ q => rq_U (n := 0) hK (fw_rcvW hK fw_c2 hj) (fw_czx hZ (ct_X1_read q)) (lw_U q718 q719 q720 q345 q95 q349) rfl (by decide +kernel) (by decide) rfl rfl (Nat.le_of_ble_eq_true rfl) dX0_yearsOf_6) (fw_mt (n := 1) rfl) h (fun v5 L4 _ _ h => ?_)
  refine aw_pop hK dX0_yearsOf_9 rfl ?_
  refine aw_aload_n hK 0 dX0_yearsOf_10 rfl rfl ?_
  refine aw_gR hK fw_c0 2 (by decide) rfl q228 (fun _ h9 => h9) dX0_yearsOf_11 h (fun r7 h => ?_)
  refine aw_iconst (v := (nI 1)) hK dX0_yearsOf_14 rfl ?_
  obtain _ | j8 := r7
  · exact (fw_nn_no h).elim
  replace h := fw_nn_so h
  refine aw_aald hK 7 (by decide) rfl dX0_yearsOf_15 h (fun r9 h => ?_)
  obtain _ | j11 := r9
  · exact (fw_nn_no h).elim
  replace h := fw_nn_so h
  refine aw_gR hK fw_c2 5 (by decide) rfl q195 (fun _ h9 => h9) dX0_yearsOf_16 h (fun r10 h => ?_)
  refine aw_astore (lv' := [(4, aR r10), (0, aR (some j0)), (1, aI x1), (2, aI x2), (3, aI x3)]) hK dX0_yearsOf_19 (by decide) rfl ?_
  refine aw_aload hK 0 dX0_yearsOf_21 rfl ?_
  refine aw_iconst (v := (nI 0)) hK dX0_yearsOf_23 rfl ?_
  refine aw_aload_n hK 1 dX0_yearsOf_24 rfl rfl ?_
  refine aw_gR hK fw_c0 23 (by decide) rfl q249 (fun _ h9 => h9) dX0_yearsOf_25 h (fun r12 h => ?_)
  refine aw_iconst (v := (nI 0)) hK dX0_yearsOf_28 rfl ?_
  refine aw_bipush (v := (nI 24)) hK dX0_yearsOf_29 rfl ?_
  obtain _ | j13 := r10
  · exact (fw_nn_no h).elim
  replace h := fw_nn_so h
  obtain _ | j14 := r12
  · exact (fw_nn_no h).elim
  replace h := fw_nn_so h
  refine aw_copy hK 0 (by decide) q873 q635 q634 q115 dX0_yearsOf_31 ⟨by decide, Nat.le_of_ble_eq_true rfl⟩ h (fun L15 h => ?_)
  refine aw_aload_n hK 1 dX0_yearsOf_34 rfl rfl ?_
  refine aw_iload_n hK 2 dX0_yearsOf_35 rfl rfl ?_
  refine aw_pI hK fw_c0 22 (by decide) rfl q248 (fun _ h9 => h9) rfl rfl rfl dX0_yearsOf_36 h (fun L16 h => ?_)
  refine aw_iconst (v := (nI 0)) hK dX0_yearsOf_39 rfl ?_
  refine aw_istore (lv' := [(5, aI (nI 0)), (4, aR (some j13)), (0, aR (some j0)), (1, aI x1), (2, aI x2), (3, aI x3)]) hK dX0_yearsOf_40 (by decide) rfl ?_
  exact aw_sub [2, 4, 5, 1, 0] rfl (w_X0_yearsOf_42 hK hZ hF h)
theorem ct_X0_yearsOf {j0 : Nat} {x1 : Int32} {x2 : Int32} {x3 : Int32} {L : LH} {r9 : Int32} {L9 : LH} {mc ms : Nat} (h : f_X0_yearsOf j0 x1 x2 x3 L = some (r9, L9, mc, ms)) : fw_Cx yX0_yearsOf (wsW_ yX0_yearsOf cX0_yearsOf 7 (some (.int)) [(39, 96, 112, 0), (112, 114, 112, 0)]) 13 287 [aR (some j0), aI x1, aI x2, aI x3] L (some (aI r9)) L9 mc ms :=
  fun b1 b2 => ct_ofH (own := RX0) fw_ZX_ok (by decide +kernel) rfl (Nat.le_of_ble_eq_true rfl) (fun K hZ hK hF hini => w_X0_yearsOf_0 hK ⟨b1, b2, hZ⟩ hF h)
def f_X0_write_47 : Nat → Nat → Option Nat → Int32 → Int32 → LH → Rs Int32
  | 0, _, _, _, _, _ => none
  | n + 1, j0, rp2, x3, x4, L =>
    if x3 ≤ x4 then (
      some (x3, L, 0, 0)
    ) else (
      fw_nn rp2 fun j3 =>
      fw_is 4 L j3 <|
      fw_cl (f_X4_type j3 L) fun v2 L1 =>
      fw_gR 1 L1 j0 12 fun r4 =>
      fw_nn r4 fun j5 =>
      fw_rq 110 L1 j5 x4 fun r6 =>
      fw_nn r6 fun j7 =>
      fw_rd 100 L1 j7 (nI 0) fun v8 =>
      fw_is 4 L1 j3 <|
      fw_cx (f_X4_lay j3 v2 x4 v8 L1) (fun _ _ => none) fun _ L9 =>
      f_X0_write_47 n j0 (some j3) x3 (x4 + (nI 1)) L9
    )
def f_X0_write (j0 : Nat) (x1 : Int32) (L : LH) : Rs Int32 :=
  fw_cl (f_X0_isSheet x1 L) fun v2 L1 =>
  if v2 = 0 then (
    some ((-nI 2), L1, 0, 0)
  ) else (
    fw_gR 1 L1 j0 24 fun r3 =>
    fw_nn r3 fun j4 =>
    fw_rq 109 L1 j4 x1 fun r5 =>
    fw_nn r5 fun j7 =>
    fw_gR 4 L1 j7 0 fun r6 =>
    if r6 = none then (
      fw_is 1 L1 j0 <|
      fw_cl (f_X0_met j0 (nI 1) L1) fun v12 L11 =>
      some (v12, L11, 0, 0)
    ) else (
      fw_is 1 L1 j0 <|
      fw_cl (f_X0_find j0 L1) fun _ L8 =>
      fw_is 4 L8 j7 <|
      fw_cl (f_X4_size j7 L8) fun v10 L9 =>
      f_X0_write_47 fw_fuel j0 (some j7) (fw_min (nI 24) v10) (nI 0) L9
    )
  )
set_option maxHeartbeats 4000000 in
set_option maxRecDepth 100000 in
theorem w_X0_write_47 {K : Kx} {r9 : Int32} {L9 : LH} (hK : Ok K cX0_write 5 RX0 13 10271) (hZ : fw_isZ K) (hF : Fin K (some (.int)) (some (aI r9)) L9) : ∀ {n : Nat} {j0 : Nat} {rp2 : Option Nat} {x3 : Int32} {x4 : Int32} {L : LH} {mc ms : Nat}, f_X0_write_47 n j0 rp2 x3 x4 L = some (r9, L9, mc, ms) → AW K L mc ms 47 [(0, aR (some j0)), (2, aR rp2), (3, aI x3), (4, aI x4)] [] := by
  intro n
  induction n with
  | zero =>
    intro j0 rp2 x3 x4 L mc ms h
    have h : (none : Rs Int32) = some (r9, L9, mc, ms) := h
    cases h
  | succ n ih =>
    intro j0 rp2 x3 x4 L mc ms h
    unfold f_X0_write_47 at h
    refine aw_iload hK 3 dX0_write_47 rfl ?_
    refine aw_iload_n hK 2 dX0_write_49 rfl rfl ?_
    refine aw_icmp_ge (tgt := 78) hK dX0_write_50 (by decide) h (fun h => ?_) (fun h => ?_)
    · refine aw_iload_n hK 2 dX0_write_78 rfl rfl ?_
      exact aw_iret hK dX0_write_79 h hF
    · refine aw_aload_n hK 1 dX0_write_53 rfl rfl ?_
      refine aw_aload_n hK 1 dX0_write_54 rfl rfl ?_
      obtain _ | j3 := rp2
      · exact (fw_nn_no h).elim
      replace h := fw_nn_so h
      obtain ⟨hj, h⟩ := fw_is_h h
      refine aw_callV_i (n := 0) hK fw_c3 hj (fun _ _ _ _ q => fw_czx hZ (ct_X4_type q)) (lw_V q771 q765 q766 q101 q767) (by decide +kernel) (by decide) rfl rfl (Nat.le_of_ble_eq_true rfl) dX0_write_55 h (fun v2 L1 _ _ h => ?_)
      refine aw_iload hK 3 dX0_write_58 rfl ?_
      refine aw_aload_n hK 0 dX0_write_60 rfl rfl ?_
      refine aw_gR hK fw_c0 12 (by decide) rfl q238 (fun _ h9 => h9) dX0_write_61 h (fun r4 h => ?_)
      refine aw_iload hK 3 dX0_write_64 rfl ?_
      obtain _ | j5 := r4
      · exact (fw_nn_no h).elim
      replace h := fw_nn_so h
      refine aw_aald hK 10 (by decide) rfl dX0_write_66 h (fun r6 h => ?_)
      refine aw_iconst (v := (nI 0)) hK dX0_write_67 rfl ?_
      obtain _ | j7 := r6
      · exact (fw_nn_no h).elim
      replace h := fw_nn_so h
      refine aw_iald hK dX0_write_68 h (fun v8 h => ?_)
      obtain ⟨hj, h⟩ := fw_is_h h
      refine aw_callX_v hK (fun _ _ _ _ q => rx_V (n := 3) hK (fw_rcvW hK fw_c3 hj) (fw_czX hZ (ct_X4_lay q)) (lw_V q1128 q1129 q1130 q101 q1131) (by decide +kernel) (by decide) rfl rfl (Nat.le_of_ble_eq_true rfl) dX0_write_69) (fw_mt (n := 4) rfl) h (fun x L9 _ _ h => ?_) (fun _ L9 _ _ h => ?_)
      · exact (fw_no h).elim
      refine aw_iinc (v := (x4 + (nI 1))) (lv' := [(4, aI (x4 + (nI 1))), (0, aR (some j0)), (2, aR (some j3)), (3, aI x3)]) hK 3 dX0_write_72 rfl rfl (by decide) rfl ?_
      refine aw_goto (tgt := 47) hK dX0_write_75 (by decide) ?_
      exact aw_sub [1, 2, 3, 0] rfl (ih h)
set_option maxHeartbeats 4000000 in
set_option maxRecDepth 100000 in
theorem w_X0_write_0 {K : Kx} {r9 : Int32} {L9 : LH} (hK : Ok K cX0_write 5 RX0 13 10271) (hZ : fw_isZ K) (hF : Fin K (some (.int)) (some (aI r9)) L9) {j0 : Nat} {x1 : Int32} {L : LH} {mc ms : Nat} (h : f_X0_write j0 x1 L = some (r9, L9, mc, ms)) : AW K L mc ms 0 [(0, aR (some j0)), (1, aI x1)] [] := by
  unfold f_X0_write at h
  refine aw_iload_n hK 1 dX0_write_0 rfl rfl ?_
  refine aw_callS_i (n := 1) hK (fun _ _ _ _ q => fw_czx hZ (ct_X0_isSheet q)) (lw_S q753 q754 q94 q755) (by decide +kernel) (by decide) rfl rfl (Nat.le_of_ble_eq_true rfl) dX0_write_1 h (fun v2 L1 _ _ h => ?_)
  refine aw_if_ne (tgt := 10) hK dX0_write_4 (by decide) h (fun h => ?_) (fun h => ?_)
  · refine aw_aload_n hK 0 dX0_write_10 rfl rfl ?_
    refine aw_gR hK fw_c0 24 (by decide) rfl q250 (fun _ h9 => h9) dX0_write_11 h (fun r3 h => ?_)
    refine aw_iload_n hK 1 dX0_write_14 rfl rfl ?_
    obtain _ | j4 := r3
    · exact (fw_nn_no h).elim
    replace h := fw_nn_so h
    refine aw_aald hK 9 (by decide) rfl dX0_write_15 h (fun r5 h => ?_)
    refine aw_astore_n (lv' := [(2, aR r5), (0, aR (some j0)), (1, aI x1)]) hK dX0_write_16 rfl (by decide) rfl ?_
    refine aw_aload_n hK 0 dX0_write_17 rfl rfl ?_
    obtain _ | j7 := r5
    · exact (fw_nn_no h).elim
    replace h := fw_nn_so h
    refine aw_gRN hK fw_c3 0 (by decide) rfl (fw_nsW hK hZ (w := Cond.fieldLinkNest "TugOfWar" 179 "TugOfWar$Sheet" "row" "Ljava/lang/Object;" "TugOfWar") (by decide)) (fun _ h9 => h9) dX0_write_18 h (fun r6 h => ?_)
    refine aw_ifnonnull (tgt := 30) hK dX0_write_21 (by decide) h (fun h => ?_) (fun h => ?_)
    · refine aw_aload_n hK 1 dX0_write_30 rfl rfl ?_
      obtain ⟨hj, h⟩ := fw_is_h h
      refine aw_callV_v (n := 0) hK fw_c0 hj (fun _ _ _ _ q => fw_czx hZ (ct_X0_find q)) (lw_V q781 q783 qs9 q94 q784) (by decide +kernel) (by decide) rfl rfl (Nat.le_of_ble_eq_true rfl) dX0_write_31 h (fun _ L8 _ _ h => ?_)
      refine aw_bipush (v := (nI 24)) hK dX0_write_34 rfl ?_
      refine aw_aload_n hK 0 dX0_write_36 rfl rfl ?_
      obtain ⟨hj, h⟩ := fw_is_h h
      refine aw_callV_i (n := 0) hK fw_c3 hj (fun _ _ _ _ q => fw_czx hZ (ct_X4_size q)) (lw_V q760 q761 q762 q101 q763) (by decide +kernel) (by decide) rfl rfl (Nat.le_of_ble_eq_true rfl) dX0_write_37 h (fun v10 L9 _ _ h => ?_)
      refine aw_min hK q802 q498 q109 q499 dX0_write_40 ⟨by decide, Nat.le_of_ble_eq_true rfl⟩ ?_
      refine aw_istore_n (lv' := [(3, aI (fw_min (nI 24) v10)), (2, aR (some j7)), (0, aR (some j0)), (1, aI x1)]) hK dX0_write_43 rfl (by decide) rfl ?_
      refine aw_iconst (v := (nI 0)) hK dX0_write_44 rfl ?_
      refine aw_istore (lv' := [(4, aI (nI 0)), (3, aI (fw_min (nI 24) v10)), (2, aR (some j7)), (0, aR (some j0)), (1, aI x1)]) hK dX0_write_45 (by decide) rfl ?_
      exact aw_sub [3, 2, 1, 0] rfl (w_X0_write_47 hK hZ hF h)
    · refine aw_aload_n hK 1 dX0_write_24 rfl rfl ?_
      refine aw_iconst (v := (nI 1)) hK dX0_write_25 rfl ?_
      obtain ⟨hj, h⟩ := fw_is_h h
      refine aw_callV_i (n := 1) hK fw_c0 hj (fun _ _ _ _ q => fw_czx hZ (ct_X0_met q)) (lw_V q756 q758 qs8 q94 q759) (by decide +kernel) (by decide) rfl rfl (Nat.le_of_ble_eq_true rfl) dX0_write_26 h (fun v12 L11 _ _ h => ?_)
      exact aw_iret hK dX0_write_29 h hF
  · refine aw_bipush (v := (-nI 2)) hK dX0_write_7 rfl ?_
    exact aw_iret hK dX0_write_9 h hF
theorem ct_X0_write {j0 : Nat} {x1 : Int32} {L : LH} {r9 : Int32} {L9 : LH} {mc ms : Nat} (h : f_X0_write j0 x1 L = some (r9, L9, mc, ms)) : fw_Cx yX0_write (ws_ yX0_write cX0_write 5 (some (.int))) 13 10271 [aR (some j0), aI x1] L (some (aI r9)) L9 mc ms :=
  fun b1 b2 => ct_of (own := RX0) fw_ZX_ok (by decide +kernel) rfl (Nat.le_of_ble_eq_true rfl) (fun K hZ hK hF hini => w_X0_write_0 hK ⟨b1, b2, hZ⟩ hF h)
def f_X0_count_56 (j0 : Nat) (x1 : Int32) (L : LH) : Rs Int32 :=
  fw_gR 1 L j0 3 fun r1 =>
  fw_nn r1 fun j2 =>
  fw_rq 108 L j2 x1 fun r3 =>
  fw_nn r3 fun j6 =>
  fw_cl (fw_td L j6 (f_X2_many j6 L) (f_X3_many j6 L)) fun v5 L4 =>
  some (v5, L4, 0, 0)
def f_X0_count (j0 : Nat) (x1 : Int32) (L : LH) : Rs Int32 :=
  fw_is 1 L j0 <|
  fw_cl (f_X0_find j0 L) fun _ L1 =>
  if x1 = (nI 0) then (
    f_X0_count_56 j0 x1 L1
  ) else (
    if x1 = (nI 1) then (
      f_X0_count_56 j0 x1 L1
    ) else (
      if x1 = (nI 2) then (
        f_X0_count_56 j0 x1 L1
      ) else (
        if x1 = (nI 3) then (
          f_X0_count_56 j0 x1 L1
        ) else (
          if x1 = (nI 4) then (
            fw_is 1 L1 j0 <|
            fw_cl (f_X0_typedIn j0 L1) fun v3 L2 =>
            some (v3, L2, 0, 0)
          ) else (
            if x1 = (nI 5) then (
              fw_gR 1 L1 j0 5 fun r4 =>
              fw_nn r4 fun j7 =>
              fw_is 5 L1 j7 <|
              fw_cl (f_J2_size j7 L1) fun v6 L5 =>
              some (v6, L5, 0, 0)
            ) else (
              if x1 = (nI 6) then (
                fw_gI 1 L1 j0 6 fun v8 =>
                some (v8, L1, 0, 0)
              ) else (
                if x1 = (nI 7) then (
                  fw_gR 1 L1 j0 20 fun r9 =>
                  fw_nn r9 fun j12 =>
                  fw_is 5 L1 j12 <|
                  fw_cl (f_J2_size j12 L1) fun v11 L10 =>
                  some (v11, L10, 0, 0)
                ) else (
                  if x1 = (nI 8) then (
                    fw_gI 1 L1 j0 0 fun v13 =>
                    some (v13, L1, 0, 0)
                  ) else (
                    some ((-nI 2), L1, 0, 0)
                  )
                )
              )
            )
          )
        )
      )
    )
  )
set_option maxHeartbeats 4000000 in
set_option maxRecDepth 100000 in
theorem w_X0_count_56 {K : Kx} {r9 : Int32} {L9 : LH} (hK : Ok K cX0_count 2 RX0 13 287) (hZ : fw_isZ K) (hF : Fin K (some (.int)) (some (aI r9)) L9) {j0 : Nat} {x1 : Int32} {L : LH} {mc ms : Nat} (h : f_X0_count_56 j0 x1 L = some (r9, L9, mc, ms)) : AW K L mc ms 56 [(0, aR (some j0)), (1, aI x1)] [] := by
  unfold f_X0_count_56 at h
  refine aw_aload_n hK 0 dX0_count_56 rfl rfl ?_
  refine aw_gR hK fw_c0 3 (by decide) rfl q229 (fun _ h9 => h9) dX0_count_57 h (fun r1 h => ?_)
  refine aw_iload_n hK 1 dX0_count_60 rfl rfl ?_
  obtain _ | j2 := r1
  · exact (fw_nn_no h).elim
  replace h := fw_nn_so h
  refine aw_aald hK 8 (by decide) rfl dX0_count_61 h (fun r3 h => ?_)
  obtain _ | j6 := r3
  · exact (fw_nn_no h).elim
  replace h := fw_nn_so h
  refine aw_callQ_i hK (fun _ _ _ _ q => fw_td_c q (fun hj q => rq_A (n := 0) hK (fw_rcvW hK fw_c1 hj) (fw_czx hZ (ct_X2_many q)) (lw_U q1154 q1156 q1161 q657 q96 q659) (fw_nsD hK hZ (x := ⟨"TugOfWar$Text", "many", "()I"⟩) (by decide)) (by decide +kernel) (by decide) rfl rfl (Nat.le_of_ble_eq_true rfl) dX0_count_62) (fun hj q => rq_A (n := 0) hK (fw_rcvW hK fw_c2 hj) (fw_czx hZ (ct_X3_many q)) (lw_U q1154 q1156 q1157 q1158 q100 q1159) (fw_nsD hK hZ (x := ⟨"TugOfWar$Text", "many", "()I"⟩) (by decide)) (by decide +kernel) (by decide) rfl rfl (Nat.le_of_ble_eq_true rfl) dX0_count_62)) (fw_mt (n := 1) rfl) h (fun v5 L4 _ _ h => ?_)
  exact aw_iret hK dX0_count_65 h hF
set_option maxHeartbeats 4000000 in
set_option maxRecDepth 100000 in
theorem w_X0_count_0 {K : Kx} {r9 : Int32} {L9 : LH} (hK : Ok K cX0_count 2 RX0 13 287) (hZ : fw_isZ K) (hF : Fin K (some (.int)) (some (aI r9)) L9) {j0 : Nat} {x1 : Int32} {L : LH} {mc ms : Nat} (h : f_X0_count j0 x1 L = some (r9, L9, mc, ms)) : AW K L mc ms 0 [(0, aR (some j0)), (1, aI x1)] [] := by
  unfold f_X0_count at h
  refine aw_aload_n hK 0 dX0_count_0 rfl rfl ?_
  obtain ⟨hj, h⟩ := fw_is_h h
  refine aw_callV_v (n := 0) hK fw_c0 hj (fun _ _ _ _ q => fw_czx hZ (ct_X0_find q)) (lw_V q781 q783 qs9 q94 q784) (by decide +kernel) (by decide) rfl rfl (Nat.le_of_ble_eq_true rfl) dX0_count_1 h (fun _ L1 _ _ h => ?_)
  refine aw_iload_n hK 1 dX0_count_4 rfl rfl ?_
  by_cases c0 : x1 = (nI 0)
  · rw [if_pos c0] at h
    refine aw_tabIn (tgt := 56) hK dX0_count_5 c0 (by decide) (by decide) rfl (by decide) ?_
    exact w_X0_count_56 hK hZ hF h
  · rw [if_neg c0] at h
    by_cases c1 : x1 = (nI 1)
    · rw [if_pos c1] at h
      refine aw_tabIn (tgt := 56) hK dX0_count_5 c1 (by decide) (by decide) rfl (by decide) ?_
      exact w_X0_count_56 hK hZ hF h
    · rw [if_neg c1] at h
      by_cases c2 : x1 = (nI 2)
      · rw [if_pos c2] at h
        refine aw_tabIn (tgt := 56) hK dX0_count_5 c2 (by decide) (by decide) rfl (by decide) ?_
        exact w_X0_count_56 hK hZ hF h
      · rw [if_neg c2] at h
        by_cases c3 : x1 = (nI 3)
        · rw [if_pos c3] at h
          refine aw_tabIn (tgt := 56) hK dX0_count_5 c3 (by decide) (by decide) rfl (by decide) ?_
          exact w_X0_count_56 hK hZ hF h
        · rw [if_neg c3] at h
          by_cases c4 : x1 = (nI 4)
          · rw [if_pos c4] at h
            refine aw_tabIn (tgt := 66) hK dX0_count_5 c4 (by decide) (by decide) rfl (by decide) ?_
            refine aw_aload_n hK 0 dX0_count_66 rfl rfl ?_
            obtain ⟨hj, h⟩ := fw_is_h h
            refine aw_callV_i (n := 0) hK fw_c0 hj (fun _ _ _ _ q => fw_czx hZ (ct_X0_typedIn q)) (lw_V q1162 q1164 qs41 q94 q1165) (by decide +kernel) (by decide) rfl rfl (Nat.le_of_ble_eq_true rfl) dX0_count_67 h (fun v3 L2 _ _ h => ?_)
            exact aw_iret hK dX0_count_70 h hF
          · rw [if_neg c4] at h
            by_cases c5 : x1 = (nI 5)
            · rw [if_pos c5] at h
              refine aw_tabIn (tgt := 71) hK dX0_count_5 c5 (by decide) (by decide) rfl (by decide) ?_
              refine aw_aload_n hK 0 dX0_count_71 rfl rfl ?_
              refine aw_gR hK fw_c0 5 (by decide) rfl q231 (fun _ h9 => h9) dX0_count_72 h (fun r4 h => ?_)
              obtain _ | j7 := r4
              · exact (fw_nn_no h).elim
              replace h := fw_nn_so h
              obtain ⟨hj, h⟩ := fw_is_h h
              refine aw_callV_i (n := 0) hK fw_c4 hj (fun _ _ _ _ q => fw_czx hZ (ct_J2_size q)) (lw_V q730 q385 q386 q99 q387) (by decide +kernel) (by decide) rfl rfl (Nat.le_of_ble_eq_true rfl) dX0_count_75 h (fun v6 L5 _ _ h => ?_)
              exact aw_iret hK dX0_count_78 h hF
            · rw [if_neg c5] at h
              by_cases c6 : x1 = (nI 6)
              · rw [if_pos c6] at h
                refine aw_tabIn (tgt := 79) hK dX0_count_5 c6 (by decide) (by decide) rfl (by decide) ?_
                refine aw_aload_n hK 0 dX0_count_79 rfl rfl ?_
                refine aw_gI hK fw_c0 6 (by decide) rfl q232 (fun _ h9 => h9) dX0_count_80 h (fun v8 h => ?_)
                exact aw_iret hK dX0_count_83 h hF
              · rw [if_neg c6] at h
                by_cases c7 : x1 = (nI 7)
                · rw [if_pos c7] at h
                  refine aw_tabIn (tgt := 84) hK dX0_count_5 c7 (by decide) (by decide) rfl (by decide) ?_
                  refine aw_aload_n hK 0 dX0_count_84 rfl rfl ?_
                  refine aw_gR hK fw_c0 20 (by decide) rfl q246 (fun _ h9 => h9) dX0_count_85 h (fun r9 h => ?_)
                  obtain _ | j12 := r9
                  · exact (fw_nn_no h).elim
                  replace h := fw_nn_so h
                  obtain ⟨hj, h⟩ := fw_is_h h
                  refine aw_callV_i (n := 0) hK fw_c4 hj (fun _ _ _ _ q => fw_czx hZ (ct_J2_size q)) (lw_V q730 q385 q386 q99 q387) (by decide +kernel) (by decide) rfl rfl (Nat.le_of_ble_eq_true rfl) dX0_count_88 h (fun v11 L10 _ _ h => ?_)
                  exact aw_iret hK dX0_count_91 h hF
                · rw [if_neg c7] at h
                  by_cases c8 : x1 = (nI 8)
                  · rw [if_pos c8] at h
                    refine aw_tabIn (tgt := 92) hK dX0_count_5 c8 (by decide) (by decide) rfl (by decide) ?_
                    refine aw_aload_n hK 0 dX0_count_92 rfl rfl ?_
                    refine aw_gI hK fw_c0 0 (by decide) rfl q226 (fun _ h9 => h9) dX0_count_93 h (fun v13 h => ?_)
                    exact aw_iret hK dX0_count_96 h hF
                  · rw [if_neg c8] at h
                    refine aw_tabOut (tgt := 97) hK dX0_count_5 ?_ (by decide) ?_
                    · have hh := And.intro (And.intro trivial trivial) trivial
                      have e0 := lv_neT c0 (a := 0) rfl
                      have e1 := lv_neT c1 (a := 1) rfl
                      have e2 := lv_neT c2 (a := 2) rfl
                      have e3 := lv_neT c3 (a := 3) rfl
                      have e4 := lv_neT c4 (a := 4) rfl
                      have e5 := lv_neT c5 (a := 5) rfl
                      have e6 := lv_neT c6 (a := 6) rfl
                      have e7 := lv_neT c7 (a := 7) rfl
                      have e8 := lv_neT c8 (a := 8) rfl
                      omega
                    · refine aw_bipush (v := (-nI 2)) hK dX0_count_97 rfl ?_
                      exact aw_iret hK dX0_count_99 h hF
theorem ct_X0_count {j0 : Nat} {x1 : Int32} {L : LH} {r9 : Int32} {L9 : LH} {mc ms : Nat} (h : f_X0_count j0 x1 L = some (r9, L9, mc, ms)) : fw_Cx yX0_count (ws_ yX0_count cX0_count 2 (some (.int))) 13 287 [aR (some j0), aI x1] L (some (aI r9)) L9 mc ms :=
  fun b1 b2 => ct_of (own := RX0) fw_ZX_ok (by decide +kernel) rfl (Nat.le_of_ble_eq_true rfl) (fun K hZ hK hF hini => w_X0_count_0 hK ⟨b1, b2, hZ⟩ hF h)
def f_X0_tellsTeam_103 : Nat → Nat → Int32 → Int64 → Int32 → LH → Rs Int64
  | 0, _, _, _, _, _ => none
  | n + 1, j0, x3, y4, x6, L =>
    if (nI 2) ≤ x6 then (
      some (y4, L, 0, 0)
    ) else (
      fw_is 1 L j0 <|
      fw_cl (f_X0_chanceOf j0 (nI 5) x3 x6 L) fun v2 L1 =>
      f_X0_tellsTeam_103 n j0 x3 (((31 : Int64) * y4) + v2) (x6 + (nI 1)) L1
    )
def f_X0_tellsTeam_71 : Nat → Nat → Int32 → Int64 → Int32 → LH → Rs Int64
  | 0, _, _, _, _, _ => none
  | n + 1, j0, x3, y4, x6, L =>
    if (nI 2) ≤ x6 then (
      f_X0_tellsTeam_103 fw_fuel j0 x3 y4 (nI 0) L
    ) else (
      fw_is 1 L j0 <|
      fw_cl (f_X0_outOf j0 x3 x6 L) fun v2 L1 =>
      f_X0_tellsTeam_71 n j0 x3 (((31 : Int64) * y4) + v2.toInt64) (x6 + (nI 1)) L1
    )
def f_X0_tellsTeam_39 : Nat → Nat → Int32 → Int64 → Int32 → LH → Rs Int64
  | 0, _, _, _, _, _ => none
  | n + 1, j0, x3, y4, x6, L =>
    if (nI 3) ≤ x6 then (
      f_X0_tellsTeam_71 fw_fuel j0 x3 y4 (nI 0) L
    ) else (
      fw_is 1 L j0 <|
      fw_cl (f_X0_swapOf j0 x3 x6 L) fun v2 L1 =>
      f_X0_tellsTeam_39 n j0 x3 (((31 : Int64) * y4) + v2.toInt64) (x6 + (nI 1)) L1
    )
def f_X0_tellsTeam_6 : Nat → Nat → Int32 → Int64 → Int32 → LH → Rs Int64
  | 0, _, _, _, _, _ => none
  | n + 1, j0, x3, y4, x6, L =>
    if (nI 2) ≤ x6 then (
      f_X0_tellsTeam_39 fw_fuel j0 x3 y4 (nI 0) L
    ) else (
      fw_is 1 L j0 <|
      fw_cl (f_X0_betterOf j0 x3 (nI 4) x6 L) fun v2 L1 =>
      f_X0_tellsTeam_6 n j0 x3 (((31 : Int64) * y4) + v2.toInt64) (x6 + (nI 1)) L1
    )
def f_X0_tellsTeam (j0 : Nat) (y1 : Int64) (x3 : Int32) (L : LH) : Rs Int64 :=
  f_X0_tellsTeam_6 fw_fuel j0 x3 y1 (nI 0) L
set_option maxHeartbeats 4000000 in
set_option maxRecDepth 100000 in
theorem w_X0_tellsTeam_103 {K : Kx} {r9 : Int64} {L9 : LH} (hK : Ok K cX0_tellsTeam 7 RX0 133 3067) (hZ : fw_isZ K) (hF : Fin K (some (.long)) (some (aL r9)) L9) : ∀ {n : Nat} {j0 : Nat} {x3 : Int32} {y4 : Int64} {x6 : Int32} {L : LH} {mc ms : Nat}, f_X0_tellsTeam_103 n j0 x3 y4 x6 L = some (r9, L9, mc, ms) → AW K L mc ms 103 [(0, aR (some j0)), (3, aI x3), (4, aL y4), (6, aI x6)] [] := by
  intro n
  induction n with
  | zero =>
    intro j0 x3 y4 x6 L mc ms h
    have h : (none : Rs Int64) = some (r9, L9, mc, ms) := h
    cases h
  | succ n ih =>
    intro j0 x3 y4 x6 L mc ms h
    unfold f_X0_tellsTeam_103 at h
    refine aw_iload hK 3 dX0_tellsTeam_103 rfl ?_
    refine aw_iconst (v := (nI 2)) hK dX0_tellsTeam_105 rfl ?_
    refine aw_icmp_ge (tgt := 132) hK dX0_tellsTeam_106 (by decide) h (fun h => ?_) (fun h => ?_)
    · refine aw_lload hK 2 dX0_tellsTeam_132 rfl ?_
      exact aw_lret hK dX0_tellsTeam_134 h hF
    · refine aw_ldc2 (v := 31) hK q1177 dX0_tellsTeam_109 ?_
      refine aw_lload hK 2 dX0_tellsTeam_112 rfl ?_
      refine aw_lmul hK dX0_tellsTeam_114 ?_
      refine aw_aload_n hK 0 dX0_tellsTeam_115 rfl rfl ?_
      refine aw_iconst (v := (nI 5)) hK dX0_tellsTeam_116 rfl ?_
      refine aw_iload_n hK 1 dX0_tellsTeam_117 rfl rfl ?_
      refine aw_iload hK 3 dX0_tellsTeam_118 rfl ?_
      obtain ⟨hj, h⟩ := fw_is_h h
      refine aw_callQ_l hK (fun _ _ _ _ q => rq_VW (n := 3) hK (fw_rcvW hK fw_c0 hj) (fw_czx hZ (ct_X0_chanceOf q)) (lw_VW q1023 q1025 qs37 q94 q1026) (by decide +kernel) (by decide) rfl rfl (Nat.le_of_ble_eq_true rfl) dX0_tellsTeam_120) (fw_mt (n := 4) rfl) h (fun v2 L1 _ _ h => ?_)
      refine aw_ladd hK dX0_tellsTeam_123 ?_
      refine aw_lstore (lv' := [(4, aL (((31 : Int64) * y4) + v2)), (0, aR (some j0)), (3, aI x3), (6, aI x6)]) hK dX0_tellsTeam_124 (by decide) rfl ?_
      refine aw_iinc (v := (x6 + (nI 1))) (lv' := [(6, aI (x6 + (nI 1))), (4, aL (((31 : Int64) * y4) + v2)), (0, aR (some j0)), (3, aI x3)]) hK 3 dX0_tellsTeam_126 rfl rfl (by decide) rfl ?_
      refine aw_goto (tgt := 103) hK dX0_tellsTeam_129 (by decide) ?_
      exact aw_sub [2, 3, 1, 0] rfl (ih h)
set_option maxHeartbeats 4000000 in
set_option maxRecDepth 100000 in
theorem w_X0_tellsTeam_71 {K : Kx} {r9 : Int64} {L9 : LH} (hK : Ok K cX0_tellsTeam 7 RX0 133 3067) (hZ : fw_isZ K) (hF : Fin K (some (.long)) (some (aL r9)) L9) : ∀ {n : Nat} {j0 : Nat} {x3 : Int32} {y4 : Int64} {x6 : Int32} {L : LH} {mc ms : Nat}, f_X0_tellsTeam_71 n j0 x3 y4 x6 L = some (r9, L9, mc, ms) → AW K L mc ms 71 [(0, aR (some j0)), (3, aI x3), (4, aL y4), (6, aI x6)] [] := by
  intro n
  induction n with
  | zero =>
    intro j0 x3 y4 x6 L mc ms h
    have h : (none : Rs Int64) = some (r9, L9, mc, ms) := h
    cases h
  | succ n ih =>
    intro j0 x3 y4 x6 L mc ms h
    unfold f_X0_tellsTeam_71 at h
    refine aw_iload hK 3 dX0_tellsTeam_71 rfl ?_
    refine aw_iconst (v := (nI 2)) hK dX0_tellsTeam_73 rfl ?_
    refine aw_icmp_ge (tgt := 100) hK dX0_tellsTeam_74 (by decide) h (fun h => ?_) (fun h => ?_)
    · refine aw_iconst (v := (nI 0)) hK dX0_tellsTeam_100 rfl ?_
      refine aw_istore (lv' := [(6, aI (nI 0)), (0, aR (some j0)), (3, aI x3), (4, aL y4)]) hK dX0_tellsTeam_101 (by decide) rfl ?_
      exact aw_sub [1, 2, 3, 0] rfl (w_X0_tellsTeam_103 hK hZ hF h)
    · refine aw_ldc2 (v := 31) hK q1177 dX0_tellsTeam_77 ?_
      refine aw_lload hK 2 dX0_tellsTeam_80 rfl ?_
      refine aw_lmul hK dX0_tellsTeam_82 ?_
      refine aw_aload_n hK 0 dX0_tellsTeam_83 rfl rfl ?_
      refine aw_iload_n hK 1 dX0_tellsTeam_84 rfl rfl ?_
      refine aw_iload hK 3 dX0_tellsTeam_85 rfl ?_
      obtain ⟨hj, h⟩ := fw_is_h h
      refine aw_callQ_i hK (fun _ _ _ _ q => rq_VW (n := 2) hK (fw_rcvW hK fw_c0 hj) (fw_czx hZ (ct_X0_outOf q)) (lw_VW q950 q952 qs27 q94 q953) (by decide +kernel) (by decide) rfl rfl (Nat.le_of_ble_eq_true rfl) dX0_tellsTeam_87) (fw_mt (n := 3) rfl) h (fun v2 L1 _ _ h => ?_)
      refine aw_i2l hK dX0_tellsTeam_90 ?_
      refine aw_ladd hK dX0_tellsTeam_91 ?_
      refine aw_lstore (lv' := [(4, aL (((31 : Int64) * y4) + v2.toInt64)), (0, aR (some j0)), (3, aI x3), (6, aI x6)]) hK dX0_tellsTeam_92 (by decide) rfl ?_
      refine aw_iinc (v := (x6 + (nI 1))) (lv' := [(6, aI (x6 + (nI 1))), (4, aL (((31 : Int64) * y4) + v2.toInt64)), (0, aR (some j0)), (3, aI x3)]) hK 3 dX0_tellsTeam_94 rfl rfl (by decide) rfl ?_
      refine aw_goto (tgt := 71) hK dX0_tellsTeam_97 (by decide) ?_
      exact aw_sub [2, 3, 1, 0] rfl (ih h)
set_option maxHeartbeats 4000000 in
set_option maxRecDepth 100000 in
theorem w_X0_tellsTeam_39 {K : Kx} {r9 : Int64} {L9 : LH} (hK : Ok K cX0_tellsTeam 7 RX0 133 3067) (hZ : fw_isZ K) (hF : Fin K (some (.long)) (some (aL r9)) L9) : ∀ {n : Nat} {j0 : Nat} {x3 : Int32} {y4 : Int64} {x6 : Int32} {L : LH} {mc ms : Nat}, f_X0_tellsTeam_39 n j0 x3 y4 x6 L = some (r9, L9, mc, ms) → AW K L mc ms 39 [(0, aR (some j0)), (3, aI x3), (4, aL y4), (6, aI x6)] [] := by
  intro n
  induction n with
  | zero =>
    intro j0 x3 y4 x6 L mc ms h
    have h : (none : Rs Int64) = some (r9, L9, mc, ms) := h
    cases h
  | succ n ih =>
    intro j0 x3 y4 x6 L mc ms h
    unfold f_X0_tellsTeam_39 at h
    refine aw_iload hK 3 dX0_tellsTeam_39 rfl ?_
    refine aw_iconst (v := (nI 3)) hK dX0_tellsTeam_41 rfl ?_
    refine aw_icmp_ge (tgt := 68) hK dX0_tellsTeam_42 (by decide) h (fun h => ?_) (fun h => ?_)
    · refine aw_iconst (v := (nI 0)) hK dX0_tellsTeam_68 rfl ?_
      refine aw_istore (lv' := [(6, aI (nI 0)), (0, aR (some j0)), (3, aI x3), (4, aL y4)]) hK dX0_tellsTeam_69 (by decide) rfl ?_
      exact aw_sub [1, 2, 3, 0] rfl (w_X0_tellsTeam_71 hK hZ hF h)
    · refine aw_ldc2 (v := 31) hK q1177 dX0_tellsTeam_45 ?_
      refine aw_lload hK 2 dX0_tellsTeam_48 rfl ?_
      refine aw_lmul hK dX0_tellsTeam_50 ?_
      refine aw_aload_n hK 0 dX0_tellsTeam_51 rfl rfl ?_
      refine aw_iload_n hK 1 dX0_tellsTeam_52 rfl rfl ?_
      refine aw_iload hK 3 dX0_tellsTeam_53 rfl ?_
      obtain ⟨hj, h⟩ := fw_is_h h
      refine aw_callQ_i hK (fun _ _ _ _ q => rq_VW (n := 2) hK (fw_rcvW hK fw_c0 hj) (fw_czx hZ (ct_X0_swapOf q)) (lw_VW q942 q944 qs26 q94 q945) (by decide +kernel) (by decide) rfl rfl (Nat.le_of_ble_eq_true rfl) dX0_tellsTeam_55) (fw_mt (n := 3) rfl) h (fun v2 L1 _ _ h => ?_)
      refine aw_i2l hK dX0_tellsTeam_58 ?_
      refine aw_ladd hK dX0_tellsTeam_59 ?_
      refine aw_lstore (lv' := [(4, aL (((31 : Int64) * y4) + v2.toInt64)), (0, aR (some j0)), (3, aI x3), (6, aI x6)]) hK dX0_tellsTeam_60 (by decide) rfl ?_
      refine aw_iinc (v := (x6 + (nI 1))) (lv' := [(6, aI (x6 + (nI 1))), (4, aL (((31 : Int64) * y4) + v2.toInt64)), (0, aR (some j0)), (3, aI x3)]) hK 3 dX0_tellsTeam_62 rfl rfl (by decide) rfl ?_
      refine aw_goto (tgt := 39) hK dX0_tellsTeam_65 (by decide) ?_
      exact aw_sub [2, 3, 1, 0] rfl (ih h)
set_option maxHeartbeats 4000000 in
set_option maxRecDepth 100000 in
theorem w_X0_tellsTeam_6 {K : Kx} {r9 : Int64} {L9 : LH} (hK : Ok K cX0_tellsTeam 7 RX0 133 3067) (hZ : fw_isZ K) (hF : Fin K (some (.long)) (some (aL r9)) L9) : ∀ {n : Nat} {j0 : Nat} {x3 : Int32} {y4 : Int64} {x6 : Int32} {L : LH} {mc ms : Nat}, f_X0_tellsTeam_6 n j0 x3 y4 x6 L = some (r9, L9, mc, ms) → AW K L mc ms 6 [(0, aR (some j0)), (3, aI x3), (4, aL y4), (6, aI x6)] [] := by
  intro n
  induction n with
  | zero =>
    intro j0 x3 y4 x6 L mc ms h
    have h : (none : Rs Int64) = some (r9, L9, mc, ms) := h
    cases h
  | succ n ih =>
    intro j0 x3 y4 x6 L mc ms h
    unfold f_X0_tellsTeam_6 at h
    refine aw_iload hK 3 dX0_tellsTeam_6 rfl ?_
    refine aw_iconst (v := (nI 2)) hK dX0_tellsTeam_8 rfl ?_
    refine aw_icmp_ge (tgt := 36) hK dX0_tellsTeam_9 (by decide) h (fun h => ?_) (fun h => ?_)
    · refine aw_iconst (v := (nI 0)) hK dX0_tellsTeam_36 rfl ?_
      refine aw_istore (lv' := [(6, aI (nI 0)), (0, aR (some j0)), (3, aI x3), (4, aL y4)]) hK dX0_tellsTeam_37 (by decide) rfl ?_
      exact aw_sub [1, 2, 3, 0] rfl (w_X0_tellsTeam_39 hK hZ hF h)
    · refine aw_ldc2 (v := 31) hK q1177 dX0_tellsTeam_12 ?_
      refine aw_lload hK 2 dX0_tellsTeam_15 rfl ?_
      refine aw_lmul hK dX0_tellsTeam_17 ?_
      refine aw_aload_n hK 0 dX0_tellsTeam_18 rfl rfl ?_
      refine aw_iload_n hK 1 dX0_tellsTeam_19 rfl rfl ?_
      refine aw_iconst (v := (nI 4)) hK dX0_tellsTeam_20 rfl ?_
      refine aw_iload hK 3 dX0_tellsTeam_21 rfl ?_
      obtain ⟨hj, h⟩ := fw_is_h h
      refine aw_callQ_i hK (fun _ _ _ _ q => rq_VW (n := 3) hK (fw_rcvW hK fw_c0 hj) (fw_czx hZ (ct_X0_betterOf q)) (lw_VW q927 q929 qs24 q94 q930) (by decide +kernel) (by decide) rfl rfl (Nat.le_of_ble_eq_true rfl) dX0_tellsTeam_23) (fw_mt (n := 4) rfl) h (fun v2 L1 _ _ h => ?_)
      refine aw_i2l hK dX0_tellsTeam_26 ?_
      refine aw_ladd hK dX0_tellsTeam_27 ?_
      refine aw_lstore (lv' := [(4, aL (((31 : Int64) * y4) + v2.toInt64)), (0, aR (some j0)), (3, aI x3), (6, aI x6)]) hK dX0_tellsTeam_28 (by decide) rfl ?_
      refine aw_iinc (v := (x6 + (nI 1))) (lv' := [(6, aI (x6 + (nI 1))), (4, aL (((31 : Int64) * y4) + v2.toInt64)), (0, aR (some j0)), (3, aI x3)]) hK 3 dX0_tellsTeam_30 rfl rfl (by decide) rfl ?_
      refine aw_goto (tgt := 6) hK dX0_tellsTeam_33 (by decide) ?_
      exact aw_sub [2, 3, 1, 0] rfl (ih h)
set_option maxHeartbeats 4000000 in
set_option maxRecDepth 100000 in
theorem w_X0_tellsTeam_0 {K : Kx} {r9 : Int64} {L9 : LH} (hK : Ok K cX0_tellsTeam 7 RX0 133 3067) (hZ : fw_isZ K) (hF : Fin K (some (.long)) (some (aL r9)) L9) {j0 : Nat} {y1 : Int64} {x3 : Int32} {L : LH} {mc ms : Nat} (h : f_X0_tellsTeam j0 y1 x3 L = some (r9, L9, mc, ms)) : AW K L mc ms 0 [(0, aR (some j0)), (1, aL y1), (3, aI x3)] [] := by
  unfold f_X0_tellsTeam at h
  refine aw_lload_n hK 1 dX0_tellsTeam_0 rfl rfl ?_
  refine aw_lstore (lv' := [(4, aL y1), (0, aR (some j0)), (1, aL y1), (3, aI x3)]) hK dX0_tellsTeam_1 (by decide) rfl ?_
  refine aw_iconst (v := (nI 0)) hK dX0_tellsTeam_3 rfl ?_
  refine aw_istore (lv' := [(6, aI (nI 0)), (4, aL y1), (0, aR (some j0)), (1, aL y1), (3, aI x3)]) hK dX0_tellsTeam_4 (by decide) rfl ?_
  exact aw_sub [2, 4, 1, 0] rfl (w_X0_tellsTeam_6 hK hZ hF h)
theorem ct_X0_tellsTeam {j0 : Nat} {y1 : Int64} {x3 : Int32} {L : LH} {r9 : Int64} {L9 : LH} {mc ms : Nat} (h : f_X0_tellsTeam j0 y1 x3 L = some (r9, L9, mc, ms)) : fw_Cx yX0_tellsTeam (ws_ yX0_tellsTeam cX0_tellsTeam 7 (some (.long))) 133 3067 [aR (some j0), aL y1, aI x3] L (some (aL r9)) L9 mc ms :=
  fun b1 b2 => ct_of (own := RX0) fw_ZX_ok (by decide +kernel) rfl (Nat.le_of_ble_eq_true rfl) (fun K hZ hK hF hini => w_X0_tellsTeam_0 hK ⟨b1, b2, hZ⟩ hF h)
def f_X0_rope (j0 : Nat) (x1 : Int32) (x2 : Int32) (L : LH) : Rs Int32 :=
  fw_is 1 L j0 <|
  fw_cl (f_X0_find j0 L) fun _ L1 =>
  fw_cl (f_X0_isBeat x1 L1) fun v3 L2 =>
  if v3 = 0 then (
    some ((-nI 2), L2, 0, 0)
  ) else (
    fw_cl (f_X0_in x2.toInt64 (0 : Int64) (3 : Int64) L2) fun v5 L4 =>
    if v5 = 0 then (
      some ((-nI 2), L4, 0, 0)
    ) else (
      fw_gR 1 L4 j0 12 fun r6 =>
      fw_nn r6 fun j7 =>
      fw_rq 110 L4 j7 x1 fun r8 =>
      fw_nn r8 fun j9 =>
      fw_rd 100 L4 j9 x2 fun v10 =>
      some (v10, L4, 0, 0)
    )
  )
set_option maxHeartbeats 4000000 in
set_option maxRecDepth 100000 in
theorem w_X0_rope_0 {K : Kx} {r9 : Int32} {L9 : LH} (hK : Ok K cX0_rope 3 RX0 13 287) (hZ : fw_isZ K) (hF : Fin K (some (.int)) (some (aI r9)) L9) {j0 : Nat} {x1 : Int32} {x2 : Int32} {L : LH} {mc ms : Nat} (h : f_X0_rope j0 x1 x2 L = some (r9, L9, mc, ms)) : AW K L mc ms 0 [(0, aR (some j0)), (1, aI x1), (2, aI x2)] [] := by
  unfold f_X0_rope at h
  refine aw_aload_n hK 0 dX0_rope_0 rfl rfl ?_
  obtain ⟨hj, h⟩ := fw_is_h h
  refine aw_callV_v (n := 0) hK fw_c0 hj (fun _ _ _ _ q => fw_czx hZ (ct_X0_find q)) (lw_V q781 q783 qs9 q94 q784) (by decide +kernel) (by decide) rfl rfl (Nat.le_of_ble_eq_true rfl) dX0_rope_1 h (fun _ L1 _ _ h => ?_)
  refine aw_iload_n hK 1 dX0_rope_4 rfl rfl ?_
  refine aw_callS_i (n := 1) hK (fun _ _ _ _ q => fw_czx hZ (ct_X0_isBeat q)) (lw_S q710 q711 q94 q712) (by decide +kernel) (by decide) rfl rfl (Nat.le_of_ble_eq_true rfl) dX0_rope_5 h (fun v3 L2 _ _ h => ?_)
  refine aw_if_eq (tgt := 34) hK dX0_rope_8 (by decide) h (fun h => ?_) (fun h => ?_)
  · refine aw_bipush (v := (-nI 2)) hK dX0_rope_34 rfl ?_
    exact aw_iret hK dX0_rope_36 h hF
  · refine aw_iload_n hK 2 dX0_rope_11 rfl rfl ?_
    refine aw_i2l hK dX0_rope_12 ?_
    refine aw_lconst (v := 0) hK dX0_rope_13 rfl ?_
    refine aw_ldc2 (v := 3) hK q309 dX0_rope_14 ?_
    refine aw_callS_i (n := 3) hK (fun _ _ _ _ q => fw_czx hZ (ct_X0_in q)) (lw_S q310 q311 q94 q312) (by decide +kernel) (by decide) rfl rfl (Nat.le_of_ble_eq_true rfl) dX0_rope_17 h (fun v5 L4 _ _ h => ?_)
    refine aw_if_eq (tgt := 34) hK dX0_rope_20 (by decide) h (fun h => ?_) (fun h => ?_)
    · refine aw_bipush (v := (-nI 2)) hK dX0_rope_34 rfl ?_
      exact aw_iret hK dX0_rope_36 h hF
    · refine aw_aload_n hK 0 dX0_rope_23 rfl rfl ?_
      refine aw_gR hK fw_c0 12 (by decide) rfl q238 (fun _ h9 => h9) dX0_rope_24 h (fun r6 h => ?_)
      refine aw_iload_n hK 1 dX0_rope_27 rfl rfl ?_
      obtain _ | j7 := r6
      · exact (fw_nn_no h).elim
      replace h := fw_nn_so h
      refine aw_aald hK 10 (by decide) rfl dX0_rope_28 h (fun r8 h => ?_)
      refine aw_iload_n hK 2 dX0_rope_29 rfl rfl ?_
      obtain _ | j9 := r8
      · exact (fw_nn_no h).elim
      replace h := fw_nn_so h
      refine aw_iald hK dX0_rope_30 h (fun v10 h => ?_)
      refine aw_goto (tgt := 36) hK dX0_rope_31 (by decide) ?_
      exact aw_iret hK dX0_rope_36 h hF
theorem ct_X0_rope {j0 : Nat} {x1 : Int32} {x2 : Int32} {L : LH} {r9 : Int32} {L9 : LH} {mc ms : Nat} (h : f_X0_rope j0 x1 x2 L = some (r9, L9, mc, ms)) : fw_Cx yX0_rope (ws_ yX0_rope cX0_rope 3 (some (.int))) 13 287 [aR (some j0), aI x1, aI x2] L (some (aI r9)) L9 mc ms :=
  fun b1 b2 => ct_of (own := RX0) fw_ZX_ok (by decide +kernel) rfl (Nat.le_of_ble_eq_true rfl) (fun K hZ hK hF hini => w_X0_rope_0 hK ⟨b1, b2, hZ⟩ hF h)
def f_X0_better (j0 : Nat) (x1 : Int32) (x2 : Int32) (x3 : Int32) (L : LH) : Rs Int32 :=
  fw_cl (f_X0_isTwo x1 L) fun v2 L1 =>
  if v2 = 0 then (
    some ((-nI 2), L1, 0, 0)
  ) else (
    fw_cl (f_X0_isBeat x2 L1) fun v4 L3 =>
    if v4 = 0 then (
      some ((-nI 2), L3, 0, 0)
    ) else (
      fw_cl (f_X0_isTwo x3 L3) fun v6 L5 =>
      if v6 = 0 then (
        some ((-nI 2), L5, 0, 0)
      ) else (
        fw_is 1 L5 j0 <|
        fw_cl (f_X0_betterOf j0 x1 x2 x3 L5) fun v8 L7 =>
        some (v8, L7, 0, 0)
      )
    )
  )
set_option maxHeartbeats 4000000 in
set_option maxRecDepth 100000 in
theorem w_X0_better_0 {K : Kx} {r9 : Int32} {L9 : LH} (hK : Ok K cX0_better 4 RX0 14 315) (hZ : fw_isZ K) (hF : Fin K (some (.int)) (some (aI r9)) L9) {j0 : Nat} {x1 : Int32} {x2 : Int32} {x3 : Int32} {L : LH} {mc ms : Nat} (h : f_X0_better j0 x1 x2 x3 L = some (r9, L9, mc, ms)) : AW K L mc ms 0 [(0, aR (some j0)), (1, aI x1), (2, aI x2), (3, aI x3)] [] := by
  unfold f_X0_better at h
  refine aw_iload_n hK 1 dX0_better_0 rfl rfl ?_
  refine aw_callS_i (n := 1) hK (fun _ _ _ _ q => fw_czx hZ (ct_X0_isTwo q)) (lw_S q707 q708 q94 q709) (by decide +kernel) (by decide) rfl rfl (Nat.le_of_ble_eq_true rfl) dX0_better_1 h (fun v2 L1 _ _ h => ?_)
  refine aw_if_eq (tgt := 31) hK dX0_better_4 (by decide) h (fun h => ?_) (fun h => ?_)
  · refine aw_bipush (v := (-nI 2)) hK dX0_better_31 rfl ?_
    exact aw_iret hK dX0_better_33 h hF
  · refine aw_iload_n hK 2 dX0_better_7 rfl rfl ?_
    refine aw_callS_i (n := 1) hK (fun _ _ _ _ q => fw_czx hZ (ct_X0_isBeat q)) (lw_S q710 q711 q94 q712) (by decide +kernel) (by decide) rfl rfl (Nat.le_of_ble_eq_true rfl) dX0_better_8 h (fun v4 L3 _ _ h => ?_)
    refine aw_if_eq (tgt := 31) hK dX0_better_11 (by decide) h (fun h => ?_) (fun h => ?_)
    · refine aw_bipush (v := (-nI 2)) hK dX0_better_31 rfl ?_
      exact aw_iret hK dX0_better_33 h hF
    · refine aw_iload_n hK 3 dX0_better_14 rfl rfl ?_
      refine aw_callS_i (n := 1) hK (fun _ _ _ _ q => fw_czx hZ (ct_X0_isTwo q)) (lw_S q707 q708 q94 q709) (by decide +kernel) (by decide) rfl rfl (Nat.le_of_ble_eq_true rfl) dX0_better_15 h (fun v6 L5 _ _ h => ?_)
      refine aw_if_eq (tgt := 31) hK dX0_better_18 (by decide) h (fun h => ?_) (fun h => ?_)
      · refine aw_bipush (v := (-nI 2)) hK dX0_better_31 rfl ?_
        exact aw_iret hK dX0_better_33 h hF
      · refine aw_aload_n hK 0 dX0_better_21 rfl rfl ?_
        refine aw_iload_n hK 1 dX0_better_22 rfl rfl ?_
        refine aw_iload_n hK 2 dX0_better_23 rfl rfl ?_
        refine aw_iload_n hK 3 dX0_better_24 rfl rfl ?_
        obtain ⟨hj, h⟩ := fw_is_h h
        refine aw_callQ_i hK (fun _ _ _ _ q => rq_VW (n := 3) hK (fw_rcvW hK fw_c0 hj) (fw_czx hZ (ct_X0_betterOf q)) (lw_VW q927 q929 qs24 q94 q930) (by decide +kernel) (by decide) rfl rfl (Nat.le_of_ble_eq_true rfl) dX0_better_25) (fw_mt (n := 4) rfl) h (fun v8 L7 _ _ h => ?_)
        refine aw_goto (tgt := 33) hK dX0_better_28 (by decide) ?_
        exact aw_iret hK dX0_better_33 h hF
theorem ct_X0_better {j0 : Nat} {x1 : Int32} {x2 : Int32} {x3 : Int32} {L : LH} {r9 : Int32} {L9 : LH} {mc ms : Nat} (h : f_X0_better j0 x1 x2 x3 L = some (r9, L9, mc, ms)) : fw_Cx yX0_better (ws_ yX0_better cX0_better 4 (some (.int))) 14 315 [aR (some j0), aI x1, aI x2, aI x3] L (some (aI r9)) L9 mc ms :=
  fun b1 b2 => ct_of (own := RX0) fw_ZX_ok (by decide +kernel) rfl (Nat.le_of_ble_eq_true rfl) (fun K hZ hK hF hini => w_X0_better_0 hK ⟨b1, b2, hZ⟩ hF h)
def f_X0_swap (j0 : Nat) (x1 : Int32) (x2 : Int32) (L : LH) : Rs Int32 :=
  fw_cl (f_X0_isTwo x1 L) fun v2 L1 =>
  if v2 = 0 then (
    some ((-nI 2), L1, 0, 0)
  ) else (
    fw_cl (f_X0_in x2.toInt64 (0 : Int64) (2 : Int64) L1) fun v4 L3 =>
    if v4 = 0 then (
      some ((-nI 2), L3, 0, 0)
    ) else (
      fw_is 1 L3 j0 <|
      fw_cl (f_X0_swapOf j0 x1 x2 L3) fun v6 L5 =>
      some (v6, L5, 0, 0)
    )
  )
set_option maxHeartbeats 4000000 in
set_option maxRecDepth 100000 in
theorem w_X0_swap_0 {K : Kx} {r9 : Int32} {L9 : LH} (hK : Ok K cX0_swap 3 RX0 14 314) (hZ : fw_isZ K) (hF : Fin K (some (.int)) (some (aI r9)) L9) {j0 : Nat} {x1 : Int32} {x2 : Int32} {L : LH} {mc ms : Nat} (h : f_X0_swap j0 x1 x2 L = some (r9, L9, mc, ms)) : AW K L mc ms 0 [(0, aR (some j0)), (1, aI x1), (2, aI x2)] [] := by
  unfold f_X0_swap at h
  refine aw_iload_n hK 1 dX0_swap_0 rfl rfl ?_
  refine aw_callS_i (n := 1) hK (fun _ _ _ _ q => fw_czx hZ (ct_X0_isTwo q)) (lw_S q707 q708 q94 q709) (by decide +kernel) (by decide) rfl rfl (Nat.le_of_ble_eq_true rfl) dX0_swap_1 h (fun v2 L1 _ _ h => ?_)
  refine aw_if_eq (tgt := 28) hK dX0_swap_4 (by decide) h (fun h => ?_) (fun h => ?_)
  · refine aw_bipush (v := (-nI 2)) hK dX0_swap_28 rfl ?_
    exact aw_iret hK dX0_swap_30 h hF
  · refine aw_iload_n hK 2 dX0_swap_7 rfl rfl ?_
    refine aw_i2l hK dX0_swap_8 ?_
    refine aw_lconst (v := 0) hK dX0_swap_9 rfl ?_
    refine aw_ldc2 (v := 2) hK q664 dX0_swap_10 ?_
    refine aw_callS_i (n := 3) hK (fun _ _ _ _ q => fw_czx hZ (ct_X0_in q)) (lw_S q310 q311 q94 q312) (by decide +kernel) (by decide) rfl rfl (Nat.le_of_ble_eq_true rfl) dX0_swap_13 h (fun v4 L3 _ _ h => ?_)
    refine aw_if_eq (tgt := 28) hK dX0_swap_16 (by decide) h (fun h => ?_) (fun h => ?_)
    · refine aw_bipush (v := (-nI 2)) hK dX0_swap_28 rfl ?_
      exact aw_iret hK dX0_swap_30 h hF
    · refine aw_aload_n hK 0 dX0_swap_19 rfl rfl ?_
      refine aw_iload_n hK 1 dX0_swap_20 rfl rfl ?_
      refine aw_iload_n hK 2 dX0_swap_21 rfl rfl ?_
      obtain ⟨hj, h⟩ := fw_is_h h
      refine aw_callQ_i hK (fun _ _ _ _ q => rq_VW (n := 2) hK (fw_rcvW hK fw_c0 hj) (fw_czx hZ (ct_X0_swapOf q)) (lw_VW q942 q944 qs26 q94 q945) (by decide +kernel) (by decide) rfl rfl (Nat.le_of_ble_eq_true rfl) dX0_swap_22) (fw_mt (n := 3) rfl) h (fun v6 L5 _ _ h => ?_)
      refine aw_goto (tgt := 30) hK dX0_swap_25 (by decide) ?_
      exact aw_iret hK dX0_swap_30 h hF
theorem ct_X0_swap {j0 : Nat} {x1 : Int32} {x2 : Int32} {L : LH} {r9 : Int32} {L9 : LH} {mc ms : Nat} (h : f_X0_swap j0 x1 x2 L = some (r9, L9, mc, ms)) : fw_Cx yX0_swap (ws_ yX0_swap cX0_swap 3 (some (.int))) 14 314 [aR (some j0), aI x1, aI x2] L (some (aI r9)) L9 mc ms :=
  fun b1 b2 => ct_of (own := RX0) fw_ZX_ok (by decide +kernel) rfl (Nat.le_of_ble_eq_true rfl) (fun K hZ hK hF hini => w_X0_swap_0 hK ⟨b1, b2, hZ⟩ hF h)
def f_X0_out (j0 : Nat) (x1 : Int32) (x2 : Int32) (L : LH) : Rs Int32 :=
  fw_cl (f_X0_isTwo x1 L) fun v2 L1 =>
  if v2 = 0 then (
    some ((-nI 2), L1, 0, 0)
  ) else (
    fw_cl (f_X0_isTwo x2 L1) fun v4 L3 =>
    if v4 = 0 then (
      some ((-nI 2), L3, 0, 0)
    ) else (
      fw_is 1 L3 j0 <|
      fw_cl (f_X0_outOf j0 x1 x2 L3) fun v6 L5 =>
      some (v6, L5, 0, 0)
    )
  )
set_option maxHeartbeats 4000000 in
set_option maxRecDepth 100000 in
theorem w_X0_out_0 {K : Kx} {r9 : Int32} {L9 : LH} (hK : Ok K cX0_out 3 RX0 14 313) (hZ : fw_isZ K) (hF : Fin K (some (.int)) (some (aI r9)) L9) {j0 : Nat} {x1 : Int32} {x2 : Int32} {L : LH} {mc ms : Nat} (h : f_X0_out j0 x1 x2 L = some (r9, L9, mc, ms)) : AW K L mc ms 0 [(0, aR (some j0)), (1, aI x1), (2, aI x2)] [] := by
  unfold f_X0_out at h
  refine aw_iload_n hK 1 dX0_out_0 rfl rfl ?_
  refine aw_callS_i (n := 1) hK (fun _ _ _ _ q => fw_czx hZ (ct_X0_isTwo q)) (lw_S q707 q708 q94 q709) (by decide +kernel) (by decide) rfl rfl (Nat.le_of_ble_eq_true rfl) dX0_out_1 h (fun v2 L1 _ _ h => ?_)
  refine aw_if_eq (tgt := 23) hK dX0_out_4 (by decide) h (fun h => ?_) (fun h => ?_)
  · refine aw_bipush (v := (-nI 2)) hK dX0_out_23 rfl ?_
    exact aw_iret hK dX0_out_25 h hF
  · refine aw_iload_n hK 2 dX0_out_7 rfl rfl ?_
    refine aw_callS_i (n := 1) hK (fun _ _ _ _ q => fw_czx hZ (ct_X0_isTwo q)) (lw_S q707 q708 q94 q709) (by decide +kernel) (by decide) rfl rfl (Nat.le_of_ble_eq_true rfl) dX0_out_8 h (fun v4 L3 _ _ h => ?_)
    refine aw_if_eq (tgt := 23) hK dX0_out_11 (by decide) h (fun h => ?_) (fun h => ?_)
    · refine aw_bipush (v := (-nI 2)) hK dX0_out_23 rfl ?_
      exact aw_iret hK dX0_out_25 h hF
    · refine aw_aload_n hK 0 dX0_out_14 rfl rfl ?_
      refine aw_iload_n hK 1 dX0_out_15 rfl rfl ?_
      refine aw_iload_n hK 2 dX0_out_16 rfl rfl ?_
      obtain ⟨hj, h⟩ := fw_is_h h
      refine aw_callQ_i hK (fun _ _ _ _ q => rq_VW (n := 2) hK (fw_rcvW hK fw_c0 hj) (fw_czx hZ (ct_X0_outOf q)) (lw_VW q950 q952 qs27 q94 q953) (by decide +kernel) (by decide) rfl rfl (Nat.le_of_ble_eq_true rfl) dX0_out_17) (fw_mt (n := 3) rfl) h (fun v6 L5 _ _ h => ?_)
      refine aw_goto (tgt := 25) hK dX0_out_20 (by decide) ?_
      exact aw_iret hK dX0_out_25 h hF
theorem ct_X0_out {j0 : Nat} {x1 : Int32} {x2 : Int32} {L : LH} {r9 : Int32} {L9 : LH} {mc ms : Nat} (h : f_X0_out j0 x1 x2 L = some (r9, L9, mc, ms)) : fw_Cx yX0_out (ws_ yX0_out cX0_out 3 (some (.int))) 14 313 [aR (some j0), aI x1, aI x2] L (some (aI r9)) L9 mc ms :=
  fun b1 b2 => ct_of (own := RX0) fw_ZX_ok (by decide +kernel) rfl (Nat.le_of_ble_eq_true rfl) (fun K hZ hK hF hini => w_X0_out_0 hK ⟨b1, b2, hZ⟩ hF h)
def f_X0_spareBy_81 (rec71 : Nat → Int32 → Int32 → Int32 → LH → Rs Int32) : Nat → Nat → Int32 → Int32 → Int32 → Int32 → LH → Rs Int32
  | 0, _, _, _, _, _, _ => none
  | n + 1, j0, x1, x2, x3, x4, L =>
    if x2 ≤ x4 then (
      rec71 j0 x1 x2 (x3 + (nI 1)) L
    ) else (
      fw_is 1 L j0 <|
      fw_cl (f_X0_isSpared j0 (((nI 1) <<< (x3 &&& 31)) ||| ((nI 1) <<< (x4 &&& 31))) L) fun v2 L1 =>
      if v2 = 0 then (
        f_X0_spareBy_81 rec71 n j0 x1 x2 x3 (x4 + (nI 1)) L1
      ) else (
        if x1 = (-nI 1) then (
          some ((nI 2), L1, 0, 0)
        ) else (
          if x1 = 0 then (
            some (x3, L1, 0, 0)
          ) else (
            some (x4, L1, 0, 0)
          )
        )
      )
    )
def f_X0_spareBy_71 : Nat → Nat → Int32 → Int32 → Int32 → LH → Rs Int32
  | 0, _, _, _, _, _ => none
  | n + 1, j0, x1, x2, x3, L =>
    if x2 ≤ x3 then (
      some ((-nI 1), L, 0, 0)
    ) else (
      f_X0_spareBy_81 (f_X0_spareBy_71 n) fw_fuel j0 x1 x2 x3 (x3 + (nI 1)) L
    )
def f_X0_spareBy_29 : Nat → Nat → Int32 → Int32 → Int32 → LH → Rs Int32
  | 0, _, _, _, _, _ => none
  | n + 1, j0, x1, x2, x3, L =>
    if x2 ≤ x3 then (
      f_X0_spareBy_71 fw_fuel j0 x1 x2 (nI 0) L
    ) else (
      fw_is 1 L j0 <|
      fw_cl (f_X0_isSpared j0 ((nI 1) <<< (x3 &&& 31)) L) fun v2 L1 =>
      if v2 = 0 then (
        f_X0_spareBy_29 n j0 x1 x2 (x3 + (nI 1)) L1
      ) else (
        if x1 = (-nI 1) then (
          some ((nI 1), L1, 0, 0)
        ) else (
          if x1 = 0 then (
            some (x3, L1, 0, 0)
          ) else (
            some ((-nI 1), L1, 0, 0)
          )
        )
      )
    )
def f_X0_spareBy (j0 : Nat) (x1 : Int32) (L : LH) : Rs Int32 :=
  fw_is 1 L j0 <|
  fw_cl (f_X0_isSpared j0 (nI 0) L) fun v2 L1 =>
  if v2 = 0 then (
    fw_gR 1 L1 j0 5 fun r3 =>
    fw_nn r3 fun j6 =>
    fw_is 5 L1 j6 <|
    fw_cl (f_J2_size j6 L1) fun v5 L4 =>
    f_X0_spareBy_29 fw_fuel j0 x1 v5 (nI 0) L4
  ) else (
    if x1 = (-nI 1) then (
      some ((nI 0), L1, 0, 0)
    ) else (
      some ((-nI 1), L1, 0, 0)
    )
  )
set_option maxHeartbeats 4000000 in
set_option maxRecDepth 100000 in
theorem w_X0_spareBy_81 {K : Kx} {r9 : Int32} {L9 : LH} (hK : Ok K cX0_spareBy 5 RX0 14 310) (hZ : fw_isZ K) (hF : Fin K (some (.int)) (some (aI r9)) L9) {rec71 : Nat → Int32 → Int32 → Int32 → LH → Rs Int32} (hrec71 : ∀ {j0 : Nat} {x1 : Int32} {x2 : Int32} {x3 : Int32} {L : LH} {mc ms : Nat}, rec71 j0 x1 x2 x3 L = some (r9, L9, mc, ms) → AW K L mc ms 71 [(0, aR (some j0)), (1, aI x1), (2, aI x2), (3, aI x3)] []) : ∀ {n : Nat} {j0 : Nat} {x1 : Int32} {x2 : Int32} {x3 : Int32} {x4 : Int32} {L : LH} {mc ms : Nat}, f_X0_spareBy_81 rec71 n j0 x1 x2 x3 x4 L = some (r9, L9, mc, ms) → AW K L mc ms 81 [(0, aR (some j0)), (1, aI x1), (2, aI x2), (3, aI x3), (4, aI x4)] [] := by
  intro n
  induction n with
  | zero =>
    intro j0 x1 x2 x3 x4 L mc ms h
    have h : (none : Rs Int32) = some (r9, L9, mc, ms) := h
    cases h
  | succ n ih =>
    intro j0 x1 x2 x3 x4 L mc ms h
    unfold f_X0_spareBy_81 at h
    refine aw_iload hK 4 dX0_spareBy_81 rfl ?_
    refine aw_iload_n hK 2 dX0_spareBy_83 rfl rfl ?_
    refine aw_icmp_ge (tgt := 128) hK dX0_spareBy_84 (by decide) h (fun h => ?_) (fun h => ?_)
    · refine aw_iinc (v := (x3 + (nI 1))) (lv' := [(3, aI (x3 + (nI 1))), (0, aR (some j0)), (1, aI x1), (2, aI x2), (4, aI x4)]) hK 3 dX0_spareBy_128 rfl rfl (by decide) rfl ?_
      refine aw_goto (tgt := 71) hK dX0_spareBy_131 (by decide) ?_
      exact aw_sub [1, 2, 3, 0] rfl (hrec71 h)
    · refine aw_aload_n hK 0 dX0_spareBy_87 rfl rfl ?_
      refine aw_iconst (v := (nI 1)) hK dX0_spareBy_88 rfl ?_
      refine aw_iload_n hK 3 dX0_spareBy_89 rfl rfl ?_
      refine aw_ishl hK dX0_spareBy_90 ?_
      refine aw_iconst (v := (nI 1)) hK dX0_spareBy_91 rfl ?_
      refine aw_iload hK 4 dX0_spareBy_92 rfl ?_
      refine aw_ishl hK dX0_spareBy_94 ?_
      refine aw_ior hK dX0_spareBy_95 ?_
      obtain ⟨hj, h⟩ := fw_is_h h
      refine aw_callQ_i hK (fun _ _ _ _ q => rq_VW (n := 1) hK (fw_rcvW hK fw_c0 hj) (fw_czx hZ (ct_X0_isSpared q)) (lw_VW q963 q965 qs29 q94 q966) (by decide +kernel) (by decide) rfl rfl (Nat.le_of_ble_eq_true rfl) dX0_spareBy_96) (fw_mt (n := 2) rfl) h (fun v2 L1 _ _ h => ?_)
      refine aw_if_eq (tgt := 122) hK dX0_spareBy_99 (by decide) h (fun h => ?_) (fun h => ?_)
      · refine aw_iinc (v := (x4 + (nI 1))) (lv' := [(4, aI (x4 + (nI 1))), (0, aR (some j0)), (1, aI x1), (2, aI x2), (3, aI x3)]) hK 4 dX0_spareBy_122 rfl rfl (by decide) rfl ?_
        refine aw_goto (tgt := 81) hK dX0_spareBy_125 (by decide) ?_
        exact aw_sub [1, 2, 3, 4, 0] rfl (ih h)
      · refine aw_iload_n hK 1 dX0_spareBy_102 rfl rfl ?_
        refine aw_iconst (v := (-nI 1)) hK dX0_spareBy_103 rfl ?_
        refine aw_icmp_ne (tgt := 111) hK dX0_spareBy_104 (by decide) h (fun h => ?_) (fun h => ?_)
        · refine aw_iload_n hK 1 dX0_spareBy_111 rfl rfl ?_
          refine aw_if_ne (tgt := 119) hK dX0_spareBy_112 (by decide) h (fun h => ?_) (fun h => ?_)
          · refine aw_iload hK 4 dX0_spareBy_119 rfl ?_
            exact aw_iret hK dX0_spareBy_121 h hF
          · refine aw_iload_n hK 3 dX0_spareBy_115 rfl rfl ?_
            refine aw_goto (tgt := 121) hK dX0_spareBy_116 (by decide) ?_
            exact aw_iret hK dX0_spareBy_121 h hF
        · refine aw_iconst (v := (nI 2)) hK dX0_spareBy_107 rfl ?_
          refine aw_goto (tgt := 121) hK dX0_spareBy_108 (by decide) ?_
          exact aw_iret hK dX0_spareBy_121 h hF
set_option maxHeartbeats 4000000 in
set_option maxRecDepth 100000 in
theorem w_X0_spareBy_71 {K : Kx} {r9 : Int32} {L9 : LH} (hK : Ok K cX0_spareBy 5 RX0 14 310) (hZ : fw_isZ K) (hF : Fin K (some (.int)) (some (aI r9)) L9) : ∀ {n : Nat} {j0 : Nat} {x1 : Int32} {x2 : Int32} {x3 : Int32} {L : LH} {mc ms : Nat}, f_X0_spareBy_71 n j0 x1 x2 x3 L = some (r9, L9, mc, ms) → AW K L mc ms 71 [(0, aR (some j0)), (1, aI x1), (2, aI x2), (3, aI x3)] [] := by
  intro n
  induction n with
  | zero =>
    intro j0 x1 x2 x3 L mc ms h
    have h : (none : Rs Int32) = some (r9, L9, mc, ms) := h
    cases h
  | succ n ih =>
    intro j0 x1 x2 x3 L mc ms h
    unfold f_X0_spareBy_71 at h
    refine aw_iload_n hK 3 dX0_spareBy_71 rfl rfl ?_
    refine aw_iload_n hK 2 dX0_spareBy_72 rfl rfl ?_
    refine aw_icmp_ge (tgt := 134) hK dX0_spareBy_73 (by decide) h (fun h => ?_) (fun h => ?_)
    · refine aw_iconst (v := (-nI 1)) hK dX0_spareBy_134 rfl ?_
      exact aw_iret hK dX0_spareBy_135 h hF
    · refine aw_iload_n hK 3 dX0_spareBy_76 rfl rfl ?_
      refine aw_iconst (v := (nI 1)) hK dX0_spareBy_77 rfl ?_
      refine aw_iadd hK dX0_spareBy_78 ?_
      refine aw_istore (lv' := [(4, aI (x3 + (nI 1))), (0, aR (some j0)), (1, aI x1), (2, aI x2), (3, aI x3)]) hK dX0_spareBy_79 (by decide) rfl ?_
      exact aw_sub [1, 2, 3, 4, 0] rfl (w_X0_spareBy_81 hK hZ hF (fun h => ih h) h)
set_option maxHeartbeats 4000000 in
set_option maxRecDepth 100000 in
theorem w_X0_spareBy_29 {K : Kx} {r9 : Int32} {L9 : LH} (hK : Ok K cX0_spareBy 5 RX0 14 310) (hZ : fw_isZ K) (hF : Fin K (some (.int)) (some (aI r9)) L9) : ∀ {n : Nat} {j0 : Nat} {x1 : Int32} {x2 : Int32} {x3 : Int32} {L : LH} {mc ms : Nat}, f_X0_spareBy_29 n j0 x1 x2 x3 L = some (r9, L9, mc, ms) → AW K L mc ms 29 [(0, aR (some j0)), (1, aI x1), (2, aI x2), (3, aI x3)] [] := by
  intro n
  induction n with
  | zero =>
    intro j0 x1 x2 x3 L mc ms h
    have h : (none : Rs Int32) = some (r9, L9, mc, ms) := h
    cases h
  | succ n ih =>
    intro j0 x1 x2 x3 L mc ms h
    unfold f_X0_spareBy_29 at h
    refine aw_iload_n hK 3 dX0_spareBy_29 rfl rfl ?_
    refine aw_iload_n hK 2 dX0_spareBy_30 rfl rfl ?_
    refine aw_icmp_ge (tgt := 69) hK dX0_spareBy_31 (by decide) h (fun h => ?_) (fun h => ?_)
    · refine aw_iconst (v := (nI 0)) hK dX0_spareBy_69 rfl ?_
      refine aw_istore_n (lv' := [(3, aI (nI 0)), (0, aR (some j0)), (1, aI x1), (2, aI x2)]) hK dX0_spareBy_70 rfl (by decide) rfl ?_
      exact aw_sub [1, 2, 3, 0] rfl (w_X0_spareBy_71 hK hZ hF h)
    · refine aw_aload_n hK 0 dX0_spareBy_34 rfl rfl ?_
      refine aw_iconst (v := (nI 1)) hK dX0_spareBy_35 rfl ?_
      refine aw_iload_n hK 3 dX0_spareBy_36 rfl rfl ?_
      refine aw_ishl hK dX0_spareBy_37 ?_
      obtain ⟨hj, h⟩ := fw_is_h h
      refine aw_callQ_i hK (fun _ _ _ _ q => rq_VW (n := 1) hK (fw_rcvW hK fw_c0 hj) (fw_czx hZ (ct_X0_isSpared q)) (lw_VW q963 q965 qs29 q94 q966) (by decide +kernel) (by decide) rfl rfl (Nat.le_of_ble_eq_true rfl) dX0_spareBy_38) (fw_mt (n := 2) rfl) h (fun v2 L1 _ _ h => ?_)
      refine aw_if_eq (tgt := 63) hK dX0_spareBy_41 (by decide) h (fun h => ?_) (fun h => ?_)
      · refine aw_iinc (v := (x3 + (nI 1))) (lv' := [(3, aI (x3 + (nI 1))), (0, aR (some j0)), (1, aI x1), (2, aI x2)]) hK 3 dX0_spareBy_63 rfl rfl (by decide) rfl ?_
        refine aw_goto (tgt := 29) hK dX0_spareBy_66 (by decide) ?_
        exact aw_sub [1, 2, 3, 0] rfl (ih h)
      · refine aw_iload_n hK 1 dX0_spareBy_44 rfl rfl ?_
        refine aw_iconst (v := (-nI 1)) hK dX0_spareBy_45 rfl ?_
        refine aw_icmp_ne (tgt := 53) hK dX0_spareBy_46 (by decide) h (fun h => ?_) (fun h => ?_)
        · refine aw_iload_n hK 1 dX0_spareBy_53 rfl rfl ?_
          refine aw_if_ne (tgt := 61) hK dX0_spareBy_54 (by decide) h (fun h => ?_) (fun h => ?_)
          · refine aw_iconst (v := (-nI 1)) hK dX0_spareBy_61 rfl ?_
            exact aw_iret hK dX0_spareBy_62 h hF
          · refine aw_iload_n hK 3 dX0_spareBy_57 rfl rfl ?_
            refine aw_goto (tgt := 62) hK dX0_spareBy_58 (by decide) ?_
            exact aw_iret hK dX0_spareBy_62 h hF
        · refine aw_iconst (v := (nI 1)) hK dX0_spareBy_49 rfl ?_
          refine aw_goto (tgt := 62) hK dX0_spareBy_50 (by decide) ?_
          exact aw_iret hK dX0_spareBy_62 h hF
set_option maxHeartbeats 4000000 in
set_option maxRecDepth 100000 in
theorem w_X0_spareBy_0 {K : Kx} {r9 : Int32} {L9 : LH} (hK : Ok K cX0_spareBy 5 RX0 14 310) (hZ : fw_isZ K) (hF : Fin K (some (.int)) (some (aI r9)) L9) {j0 : Nat} {x1 : Int32} {L : LH} {mc ms : Nat} (h : f_X0_spareBy j0 x1 L = some (r9, L9, mc, ms)) : AW K L mc ms 0 [(0, aR (some j0)), (1, aI x1)] [] := by
  unfold f_X0_spareBy at h
  refine aw_aload_n hK 0 dX0_spareBy_0 rfl rfl ?_
  refine aw_iconst (v := (nI 0)) hK dX0_spareBy_1 rfl ?_
  obtain ⟨hj, h⟩ := fw_is_h h
  refine aw_callQ_i hK (fun _ _ _ _ q => rq_VW (n := 1) hK (fw_rcvW hK fw_c0 hj) (fw_czx hZ (ct_X0_isSpared q)) (lw_VW q963 q965 qs29 q94 q966) (by decide +kernel) (by decide) rfl rfl (Nat.le_of_ble_eq_true rfl) dX0_spareBy_2) (fw_mt (n := 2) rfl) h (fun v2 L1 _ _ h => ?_)
  refine aw_if_eq (tgt := 19) hK dX0_spareBy_5 (by decide) h (fun h => ?_) (fun h => ?_)
  · refine aw_aload_n hK 0 dX0_spareBy_19 rfl rfl ?_
    refine aw_gR hK fw_c0 5 (by decide) rfl q231 (fun _ h9 => h9) dX0_spareBy_20 h (fun r3 h => ?_)
    obtain _ | j6 := r3
    · exact (fw_nn_no h).elim
    replace h := fw_nn_so h
    obtain ⟨hj, h⟩ := fw_is_h h
    refine aw_callV_i (n := 0) hK fw_c4 hj (fun _ _ _ _ q => fw_czx hZ (ct_J2_size q)) (lw_V q730 q385 q386 q99 q387) (by decide +kernel) (by decide) rfl rfl (Nat.le_of_ble_eq_true rfl) dX0_spareBy_23 h (fun v5 L4 _ _ h => ?_)
    refine aw_istore_n (lv' := [(2, aI v5), (0, aR (some j0)), (1, aI x1)]) hK dX0_spareBy_26 rfl (by decide) rfl ?_
    refine aw_iconst (v := (nI 0)) hK dX0_spareBy_27 rfl ?_
    refine aw_istore_n (lv' := [(3, aI (nI 0)), (2, aI v5), (0, aR (some j0)), (1, aI x1)]) hK dX0_spareBy_28 rfl (by decide) rfl ?_
    exact aw_sub [2, 3, 1, 0] rfl (w_X0_spareBy_29 hK hZ hF h)
  · refine aw_iload_n hK 1 dX0_spareBy_8 rfl rfl ?_
    refine aw_iconst (v := (-nI 1)) hK dX0_spareBy_9 rfl ?_
    refine aw_icmp_ne (tgt := 17) hK dX0_spareBy_10 (by decide) h (fun h => ?_) (fun h => ?_)
    · refine aw_iconst (v := (-nI 1)) hK dX0_spareBy_17 rfl ?_
      exact aw_iret hK dX0_spareBy_18 h hF
    · refine aw_iconst (v := (nI 0)) hK dX0_spareBy_13 rfl ?_
      refine aw_goto (tgt := 18) hK dX0_spareBy_14 (by decide) ?_
      exact aw_iret hK dX0_spareBy_18 h hF
theorem ct_X0_spareBy {j0 : Nat} {x1 : Int32} {L : LH} {r9 : Int32} {L9 : LH} {mc ms : Nat} (h : f_X0_spareBy j0 x1 L = some (r9, L9, mc, ms)) : fw_Cx yX0_spareBy (ws_ yX0_spareBy cX0_spareBy 5 (some (.int))) 14 310 [aR (some j0), aI x1] L (some (aI r9)) L9 mc ms :=
  fun b1 b2 => ct_of (own := RX0) fw_ZX_ok (by decide +kernel) rfl (Nat.le_of_ble_eq_true rfl) (fun K hZ hK hF hini => w_X0_spareBy_0 hK ⟨b1, b2, hZ⟩ hF h)
def f_X0_neverNow_37 (rec4 : Nat → Int32 → Int32 → LH → Rs Int32) (j0 : Nat) (x2 : Int32) (sx0 : Int32) (sx1 : Int32) (L : LH) : Rs Int32 :=
  rec4 j0 (sx1 ||| sx0) (x2 + (nI 1)) L
def f_X0_neverNow_4 : Nat → Nat → Int32 → Int32 → LH → Rs Int32
  | 0, _, _, _, _ => none
  | n + 1, j0, x1, x2, L =>
    fw_gR 1 L j0 5 fun r1 =>
    fw_nn r1 fun j4 =>
    fw_is 5 L j4 <|
    fw_cl (f_J2_size j4 L) fun v3 L2 =>
    if v3 ≤ x2 then (
      fw_pI 1 L2 j0 16 (nI 0) fun L5 =>
      some (x1, L5, 0, 0)
    ) else (
      fw_pI 1 L2 j0 16 ((nI 1) <<< (x2 &&& 31)) fun L6 =>
      fw_is 1 L6 j0 <|
      fw_cl (f_X0_isSeen j0 L6) fun v8 L7 =>
      if v8 = 0 then (
        f_X0_neverNow_37 (f_X0_neverNow_4 n) j0 x2 (nI 0) x1 L7
      ) else (
        f_X0_neverNow_37 (f_X0_neverNow_4 n) j0 x2 ((nI 1) <<< (x2 &&& 31)) x1 L7
      )
    )
def f_X0_neverNow (j0 : Nat) (L : LH) : Rs Int32 :=
  f_X0_neverNow_4 fw_fuel j0 (nI 0) (nI 0) L
set_option maxHeartbeats 4000000 in
set_option maxRecDepth 100000 in
theorem w_X0_neverNow_37 {K : Kx} {r9 : Int32} {L9 : LH} (hK : Ok K cX0_neverNow 4 RX0 14 309) (hZ : fw_isZ K) (hF : Fin K (some (.int)) (some (aI r9)) L9) {rec4 : Nat → Int32 → Int32 → LH → Rs Int32} (hrec4 : ∀ {j0 : Nat} {x1 : Int32} {x2 : Int32} {L : LH} {mc ms : Nat}, rec4 j0 x1 x2 L = some (r9, L9, mc, ms) → AW K L mc ms 4 [(0, aR (some j0)), (1, aI x1), (2, aI x2)] []) {j0 : Nat} {x2 : Int32} {sx0 : Int32} {sx1 : Int32} {L : LH} {mc ms : Nat} (h : f_X0_neverNow_37 rec4 j0 x2 sx0 sx1 L = some (r9, L9, mc, ms)) : AW K L mc ms 37 [(0, aR (some j0)), (2, aI x2)] [aI sx0, aI sx1] := by
  unfold f_X0_neverNow_37 at h
  refine aw_ior hK dX0_neverNow_37 ?_
  refine aw_istore_n (lv' := [(1, aI (sx1 ||| sx0)), (0, aR (some j0)), (2, aI x2)]) hK dX0_neverNow_38 rfl (by decide) rfl ?_
  refine aw_iinc (v := (x2 + (nI 1))) (lv' := [(2, aI (x2 + (nI 1))), (1, aI (sx1 ||| sx0)), (0, aR (some j0))]) hK 2 dX0_neverNow_39 rfl rfl (by decide) rfl ?_
  refine aw_goto (tgt := 4) hK dX0_neverNow_42 (by decide) ?_
  exact aw_sub [2, 1, 0] rfl (hrec4 h)
set_option maxHeartbeats 4000000 in
set_option maxRecDepth 100000 in
theorem w_X0_neverNow_4 {K : Kx} {r9 : Int32} {L9 : LH} (hK : Ok K cX0_neverNow 4 RX0 14 309) (hZ : fw_isZ K) (hF : Fin K (some (.int)) (some (aI r9)) L9) : ∀ {n : Nat} {j0 : Nat} {x1 : Int32} {x2 : Int32} {L : LH} {mc ms : Nat}, f_X0_neverNow_4 n j0 x1 x2 L = some (r9, L9, mc, ms) → AW K L mc ms 4 [(0, aR (some j0)), (1, aI x1), (2, aI x2)] [] := by
  intro n
  induction n with
  | zero =>
    intro j0 x1 x2 L mc ms h
    have h : (none : Rs Int32) = some (r9, L9, mc, ms) := h
    cases h
  | succ n ih =>
    intro j0 x1 x2 L mc ms h
    unfold f_X0_neverNow_4 at h
    refine aw_iload_n hK 2 dX0_neverNow_4 rfl rfl ?_
    refine aw_aload_n hK 0 dX0_neverNow_5 rfl rfl ?_
    refine aw_gR hK fw_c0 5 (by decide) rfl q231 (fun _ h9 => h9) dX0_neverNow_6 h (fun r1 h => ?_)
    obtain _ | j4 := r1
    · exact (fw_nn_no h).elim
    replace h := fw_nn_so h
    obtain ⟨hj, h⟩ := fw_is_h h
    refine aw_callV_i (n := 0) hK fw_c4 hj (fun _ _ _ _ q => fw_czx hZ (ct_J2_size q)) (lw_V q730 q385 q386 q99 q387) (by decide +kernel) (by decide) rfl rfl (Nat.le_of_ble_eq_true rfl) dX0_neverNow_9 h (fun v3 L2 _ _ h => ?_)
    refine aw_icmp_ge (tgt := 45) hK dX0_neverNow_12 (by decide) h (fun h => ?_) (fun h => ?_)
    · refine aw_aload_n hK 0 dX0_neverNow_45 rfl rfl ?_
      refine aw_iconst (v := (nI 0)) hK dX0_neverNow_46 rfl ?_
      refine aw_pI hK fw_c0 16 (by decide) rfl q242 (fun _ h9 => h9) rfl rfl rfl dX0_neverNow_47 h (fun L5 h => ?_)
      refine aw_goto (tgt := 61) hK dX0_neverNow_50 (by decide) ?_
      refine aw_iload_n hK 1 dX0_neverNow_61 rfl rfl ?_
      exact aw_iret hK dX0_neverNow_62 h hF
    · refine aw_aload_n hK 0 dX0_neverNow_15 rfl rfl ?_
      refine aw_iconst (v := (nI 1)) hK dX0_neverNow_16 rfl ?_
      refine aw_iload_n hK 2 dX0_neverNow_17 rfl rfl ?_
      refine aw_ishl hK dX0_neverNow_18 ?_
      refine aw_pI hK fw_c0 16 (by decide) rfl q242 (fun _ h9 => h9) rfl rfl rfl dX0_neverNow_19 h (fun L6 h => ?_)
      refine aw_iload_n hK 1 dX0_neverNow_22 rfl rfl ?_
      refine aw_aload_n hK 0 dX0_neverNow_23 rfl rfl ?_
      obtain ⟨hj, h⟩ := fw_is_h h
      refine aw_callV_i (n := 0) hK fw_c0 hj (fun _ _ _ _ q => fw_czx hZ (ct_X0_isSeen q)) (lw_V q985 q987 qs31 q94 q988) (by decide +kernel) (by decide) rfl rfl (Nat.le_of_ble_eq_true rfl) dX0_neverNow_24 h (fun v8 L7 _ _ h => ?_)
      refine aw_if_eq (tgt := 36) hK dX0_neverNow_27 (by decide) h (fun h => ?_) (fun h => ?_)
      · refine aw_iconst (v := (nI 0)) hK dX0_neverNow_36 rfl ?_
        exact aw_sub [0, 2] rfl (w_X0_neverNow_37 hK hZ hF (fun h => ih h) h)
      · refine aw_iconst (v := (nI 1)) hK dX0_neverNow_30 rfl ?_
        refine aw_iload_n hK 2 dX0_neverNow_31 rfl rfl ?_
        refine aw_ishl hK dX0_neverNow_32 ?_
        refine aw_goto (tgt := 37) hK dX0_neverNow_33 (by decide) ?_
        exact aw_sub [0, 2] rfl (w_X0_neverNow_37 hK hZ hF (fun h => ih h) h)
set_option maxHeartbeats 4000000 in
set_option maxRecDepth 100000 in
theorem w_X0_neverNow_0 {K : Kx} {r9 : Int32} {L9 : LH} (hK : Ok K cX0_neverNow 4 RX0 14 309) (hZ : fw_isZ K) (hF : Fin K (some (.int)) (some (aI r9)) L9) {j0 : Nat} {L : LH} {mc ms : Nat} (h : f_X0_neverNow j0 L = some (r9, L9, mc, ms)) : AW K L mc ms 0 [(0, aR (some j0))] [] := by
  unfold f_X0_neverNow at h
  refine aw_iconst (v := (nI 0)) hK dX0_neverNow_0 rfl ?_
  refine aw_istore_n (lv' := [(1, aI (nI 0)), (0, aR (some j0))]) hK dX0_neverNow_1 rfl (by decide) rfl ?_
  refine aw_iconst (v := (nI 0)) hK dX0_neverNow_2 rfl ?_
  refine aw_istore_n (lv' := [(2, aI (nI 0)), (1, aI (nI 0)), (0, aR (some j0))]) hK dX0_neverNow_3 rfl (by decide) rfl ?_
  exact aw_sub [2, 1, 0] rfl (w_X0_neverNow_4 hK hZ hF h)
theorem ct_X0_neverNow {j0 : Nat} {L : LH} {r9 : Int32} {L9 : LH} {mc ms : Nat} (h : f_X0_neverNow j0 L = some (r9, L9, mc, ms)) : fw_Cx yX0_neverNow (wsW_ yX0_neverNow cX0_neverNow 4 (some (.int)) [(2, 45, 53, 0)]) 14 309 [aR (some j0)] L (some (aI r9)) L9 mc ms :=
  fun b1 b2 => ct_ofH (own := RX0) fw_ZX_ok (by decide +kernel) rfl (Nat.le_of_ble_eq_true rfl) (fun K hZ hK hF hini => w_X0_neverNow_0 hK ⟨b1, b2, hZ⟩ hF h)
def f_X0_wasOf (j0 : Nat) (x1 : Int32) (x2 : Int32) (L : LH) : Rs Int32 :=
  if x2 = 0 then (
    fw_is 1 L j0 <|
    fw_cl (f_X0_pullerBy j0 x1 L) fun r6 L5 =>
    fw_is 1 L5 j0 <|
    fw_cl (f_X0_weightsBy j0 r6 L5) fun v8 L7 =>
    some (v8, L7, 0, 0)
  ) else (
    fw_is 1 L j0 <|
    fw_cl (f_X0_pullerBy j0 x1 L) fun r2 L1 =>
    fw_is 1 L1 j0 <|
    fw_cl (f_X0_sortBy j0 r2 L1) fun v4 L3 =>
    some (v4, L3, 0, 0)
  )
set_option maxHeartbeats 4000000 in
set_option maxRecDepth 100000 in
theorem w_X0_wasOf_0 {K : Kx} {r9 : Int32} {L9 : LH} (hK : Ok K cX0_wasOf 3 RX0 15 334) (hZ : fw_isZ K) (hF : Fin K (some (.int)) (some (aI r9)) L9) {j0 : Nat} {x1 : Int32} {x2 : Int32} {L : LH} {mc ms : Nat} (h : f_X0_wasOf j0 x1 x2 L = some (r9, L9, mc, ms)) : AW K L mc ms 0 [(0, aR (some j0)), (1, aI x1), (2, aI x2)] [] := by
  unfold f_X0_wasOf at h
  refine aw_iload_n hK 2 dX0_wasOf_0 rfl rfl ?_
  refine aw_if_ne (tgt := 16) hK dX0_wasOf_1 (by decide) h (fun h => ?_) (fun h => ?_)
  · refine aw_aload_n hK 0 dX0_wasOf_16 rfl rfl ?_
    refine aw_aload_n hK 0 dX0_wasOf_17 rfl rfl ?_
    refine aw_iload_n hK 1 dX0_wasOf_18 rfl rfl ?_
    obtain ⟨hj, h⟩ := fw_is_h h
    refine aw_callV_r (n := 1) hK fw_c0 hj (fun _ _ _ _ q => fw_czx hZ (ct_X0_pullerBy q)) (lw_V q665 q667 qs5 q94 q668) (by decide +kernel) (by decide) rfl rfl (Nat.le_of_ble_eq_true rfl) dX0_wasOf_19 h (fun r2 L1 _ _ h => ?_)
    obtain ⟨hj, h⟩ := fw_is_h h
    refine aw_callQ_i hK (fun _ _ _ _ q => rq_VW (n := 1) hK (fw_rcvW hK fw_c0 hj) (fw_czx hZ (ct_X0_sortBy q)) (lw_VW q1001 q1003 qs34 q94 q1004) (by decide +kernel) (by decide) rfl rfl (Nat.le_of_ble_eq_true rfl) dX0_wasOf_22) (fw_mt (n := 2) rfl) h (fun v4 L3 _ _ h => ?_)
    exact aw_iret hK dX0_wasOf_25 h hF
  · refine aw_aload_n hK 0 dX0_wasOf_4 rfl rfl ?_
    refine aw_aload_n hK 0 dX0_wasOf_5 rfl rfl ?_
    refine aw_iload_n hK 1 dX0_wasOf_6 rfl rfl ?_
    obtain ⟨hj, h⟩ := fw_is_h h
    refine aw_callV_r (n := 1) hK fw_c0 hj (fun _ _ _ _ q => fw_czx hZ (ct_X0_pullerBy q)) (lw_V q665 q667 qs5 q94 q668) (by decide +kernel) (by decide) rfl rfl (Nat.le_of_ble_eq_true rfl) dX0_wasOf_7 h (fun r6 L5 _ _ h => ?_)
    obtain ⟨hj, h⟩ := fw_is_h h
    refine aw_callQ_i hK (fun _ _ _ _ q => rq_VW (n := 1) hK (fw_rcvW hK fw_c0 hj) (fw_czx hZ (ct_X0_weightsBy q)) (lw_VW q997 q999 qs33 q94 q1000) (by decide +kernel) (by decide) rfl rfl (Nat.le_of_ble_eq_true rfl) dX0_wasOf_10) (fw_mt (n := 2) rfl) h (fun v8 L7 _ _ h => ?_)
    refine aw_goto (tgt := 25) hK dX0_wasOf_13 (by decide) ?_
    exact aw_iret hK dX0_wasOf_25 h hF
theorem ct_X0_wasOf {j0 : Nat} {x1 : Int32} {x2 : Int32} {L : LH} {r9 : Int32} {L9 : LH} {mc ms : Nat} (h : f_X0_wasOf j0 x1 x2 L = some (r9, L9, mc, ms)) : fw_Cx yX0_wasOf (ws_ yX0_wasOf cX0_wasOf 3 (some (.int))) 15 334 [aR (some j0), aI x1, aI x2] L (some (aI r9)) L9 mc ms :=
  fun b1 b2 => ct_of (own := RX0) fw_ZX_ok (by decide +kernel) rfl (Nat.le_of_ble_eq_true rfl) (fun K hZ hK hF hini => w_X0_wasOf_0 hK ⟨b1, b2, hZ⟩ hF h)
def f_X0_ask (j0 : Nat) (x1 : Int32) (L : LH) : Rs Int32 :=
  fw_is 1 L j0 <|
  fw_cl (f_X0_isPuller j0 x1 L) fun v2 L1 =>
  if v2 = 0 then (
    some ((-nI 2), L1, 0, 0)
  ) else (
    fw_is 1 L1 j0 <|
    fw_cl (f_X0_askOf j0 x1 L1) fun v4 L3 =>
    some (v4, L3, 0, 0)
  )
set_option maxHeartbeats 4000000 in
set_option maxRecDepth 100000 in
theorem w_X0_ask_0 {K : Kx} {r9 : Int32} {L9 : LH} (hK : Ok K cX0_ask 2 RX0 16 358) (hZ : fw_isZ K) (hF : Fin K (some (.int)) (some (aI r9)) L9) {j0 : Nat} {x1 : Int32} {L : LH} {mc ms : Nat} (h : f_X0_ask j0 x1 L = some (r9, L9, mc, ms)) : AW K L mc ms 0 [(0, aR (some j0)), (1, aI x1)] [] := by
  unfold f_X0_ask at h
  refine aw_aload_n hK 0 dX0_ask_0 rfl rfl ?_
  refine aw_iload_n hK 1 dX0_ask_1 rfl rfl ?_
  obtain ⟨hj, h⟩ := fw_is_h h
  refine aw_callV_i (n := 1) hK fw_c0 hj (fun _ _ _ _ q => fw_czx hZ (ct_X0_isPuller q)) (lw_V q651 q653 qs4 q94 q654) (by decide +kernel) (by decide) rfl rfl (Nat.le_of_ble_eq_true rfl) dX0_ask_2 h (fun v2 L1 _ _ h => ?_)
  refine aw_if_eq (tgt := 16) hK dX0_ask_5 (by decide) h (fun h => ?_) (fun h => ?_)
  · refine aw_bipush (v := (-nI 2)) hK dX0_ask_16 rfl ?_
    exact aw_iret hK dX0_ask_18 h hF
  · refine aw_aload_n hK 0 dX0_ask_8 rfl rfl ?_
    refine aw_iload_n hK 1 dX0_ask_9 rfl rfl ?_
    obtain ⟨hj, h⟩ := fw_is_h h
    refine aw_callV_i (n := 1) hK fw_c0 hj (fun _ _ _ _ q => fw_czx hZ (ct_X0_askOf q)) (lw_V q1010 q1012 qs35 q94 q1013) (by decide +kernel) (by decide) rfl rfl (Nat.le_of_ble_eq_true rfl) dX0_ask_10 h (fun v4 L3 _ _ h => ?_)
    refine aw_goto (tgt := 18) hK dX0_ask_13 (by decide) ?_
    exact aw_iret hK dX0_ask_18 h hF
theorem ct_X0_ask {j0 : Nat} {x1 : Int32} {L : LH} {r9 : Int32} {L9 : LH} {mc ms : Nat} (h : f_X0_ask j0 x1 L = some (r9, L9, mc, ms)) : fw_Cx yX0_ask (ws_ yX0_ask cX0_ask 2 (some (.int))) 16 358 [aR (some j0), aI x1] L (some (aI r9)) L9 mc ms :=
  fun b1 b2 => ct_of (own := RX0) fw_ZX_ok (by decide +kernel) rfl (Nat.le_of_ble_eq_true rfl) (fun K hZ hK hF hini => w_X0_ask_0 hK ⟨b1, b2, hZ⟩ hF h)
def f_X0_chance_36 (L : LH) : Rs Int64 :=
  fw_cl (f_X0_no (-nI 2) L) fun v2 L1 =>
  some (v2, L1, 0, 0)
def f_X0_chance (j0 : Nat) (x1 : Int32) (x2 : Int32) (x3 : Int32) (L : LH) : Rs Int64 :=
  fw_cl (f_X0_in x1.toInt64 (0 : Int64) (16 : Int64) L) fun v2 L1 =>
  if v2 = 0 then (
    f_X0_chance_36 L1
  ) else (
    fw_cl (f_X0_isTwo x2 L1) fun v4 L3 =>
    if v4 = 0 then (
      f_X0_chance_36 L3
    ) else (
      fw_cl (f_X0_isTwo x3 L3) fun v6 L5 =>
      if v6 = 0 then (
        f_X0_chance_36 L5
      ) else (
        fw_is 1 L5 j0 <|
        fw_cl (f_X0_chanceOf j0 x1 x2 x3 L5) fun v8 L7 =>
        some (v8, L7, 0, 0)
      )
    )
  )
set_option maxHeartbeats 4000000 in
set_option maxRecDepth 100000 in
theorem w_X0_chance_36 {K : Kx} {r9 : Int64} {L9 : LH} (hK : Ok K cX0_chance 4 RX0 133 3067) (hZ : fw_isZ K) (hF : Fin K (some (.long)) (some (aL r9)) L9)  {L : LH} {mc ms : Nat} (h : f_X0_chance_36  L = some (r9, L9, mc, ms)) : AW K L mc ms 36 [] [] := by
  unfold f_X0_chance_36 at h
  refine aw_bipush (v := (-nI 2)) hK dX0_chance_36 rfl ?_
  refine aw_callS_l (n := 1) hK (fun _ _ _ _ q => fw_czx hZ (ct_X0_no q)) (lw_S q1033 q1034 q94 q1035) (by decide +kernel) (by decide) rfl rfl (Nat.le_of_ble_eq_true rfl) dX0_chance_38 h (fun v2 L1 _ _ h => ?_)
  exact aw_lret hK dX0_chance_41 h hF
set_option maxHeartbeats 4000000 in
set_option maxRecDepth 100000 in
theorem w_X0_chance_0 {K : Kx} {r9 : Int64} {L9 : LH} (hK : Ok K cX0_chance 4 RX0 133 3067) (hZ : fw_isZ K) (hF : Fin K (some (.long)) (some (aL r9)) L9) {j0 : Nat} {x1 : Int32} {x2 : Int32} {x3 : Int32} {L : LH} {mc ms : Nat} (h : f_X0_chance j0 x1 x2 x3 L = some (r9, L9, mc, ms)) : AW K L mc ms 0 [(0, aR (some j0)), (1, aI x1), (2, aI x2), (3, aI x3)] [] := by
  unfold f_X0_chance at h
  refine aw_iload_n hK 1 dX0_chance_0 rfl rfl ?_
  refine aw_i2l hK dX0_chance_1 ?_
  refine aw_lconst (v := 0) hK dX0_chance_2 rfl ?_
  refine aw_ldc2 (v := 16) hK q1022 dX0_chance_3 ?_
  refine aw_callS_i (n := 3) hK (fun _ _ _ _ q => fw_czx hZ (ct_X0_in q)) (lw_S q310 q311 q94 q312) (by decide +kernel) (by decide) rfl rfl (Nat.le_of_ble_eq_true rfl) dX0_chance_6 h (fun v2 L1 _ _ h => ?_)
  refine aw_if_eq (tgt := 36) hK dX0_chance_9 (by decide) h (fun h => ?_) (fun h => ?_)
  · exact aw_sub [] rfl (w_X0_chance_36 hK hZ hF h)
  · refine aw_iload_n hK 2 dX0_chance_12 rfl rfl ?_
    refine aw_callS_i (n := 1) hK (fun _ _ _ _ q => fw_czx hZ (ct_X0_isTwo q)) (lw_S q707 q708 q94 q709) (by decide +kernel) (by decide) rfl rfl (Nat.le_of_ble_eq_true rfl) dX0_chance_13 h (fun v4 L3 _ _ h => ?_)
    refine aw_if_eq (tgt := 36) hK dX0_chance_16 (by decide) h (fun h => ?_) (fun h => ?_)
    · exact aw_sub [] rfl (w_X0_chance_36 hK hZ hF h)
    · refine aw_iload_n hK 3 dX0_chance_19 rfl rfl ?_
      refine aw_callS_i (n := 1) hK (fun _ _ _ _ q => fw_czx hZ (ct_X0_isTwo q)) (lw_S q707 q708 q94 q709) (by decide +kernel) (by decide) rfl rfl (Nat.le_of_ble_eq_true rfl) dX0_chance_20 h (fun v6 L5 _ _ h => ?_)
      refine aw_if_eq (tgt := 36) hK dX0_chance_23 (by decide) h (fun h => ?_) (fun h => ?_)
      · exact aw_sub [] rfl (w_X0_chance_36 hK hZ hF h)
      · refine aw_aload_n hK 0 dX0_chance_26 rfl rfl ?_
        refine aw_iload_n hK 1 dX0_chance_27 rfl rfl ?_
        refine aw_iload_n hK 2 dX0_chance_28 rfl rfl ?_
        refine aw_iload_n hK 3 dX0_chance_29 rfl rfl ?_
        obtain ⟨hj, h⟩ := fw_is_h h
        refine aw_callQ_l hK (fun _ _ _ _ q => rq_VW (n := 3) hK (fw_rcvW hK fw_c0 hj) (fw_czx hZ (ct_X0_chanceOf q)) (lw_VW q1023 q1025 qs37 q94 q1026) (by decide +kernel) (by decide) rfl rfl (Nat.le_of_ble_eq_true rfl) dX0_chance_30) (fw_mt (n := 4) rfl) h (fun v8 L7 _ _ h => ?_)
        refine aw_goto (tgt := 41) hK dX0_chance_33 (by decide) ?_
        exact aw_lret hK dX0_chance_41 h hF
theorem ct_X0_chance {j0 : Nat} {x1 : Int32} {x2 : Int32} {x3 : Int32} {L : LH} {r9 : Int64} {L9 : LH} {mc ms : Nat} (h : f_X0_chance j0 x1 x2 x3 L = some (r9, L9, mc, ms)) : fw_Cx yX0_chance (ws_ yX0_chance cX0_chance 4 (some (.long))) 133 3067 [aR (some j0), aI x1, aI x2, aI x3] L (some (aL r9)) L9 mc ms :=
  fun b1 b2 => ct_of (own := RX0) fw_ZX_ok (by decide +kernel) rfl (Nat.le_of_ble_eq_true rfl) (fun K hZ hK hF hini => w_X0_chance_0 hK ⟨b1, b2, hZ⟩ hF h)
def f_X0_years (j0 : Nat) (x1 : Int32) (x2 : Int32) (x3 : Int32) (L : LH) : Rs Int32 :=
  fw_cl (f_X0_in x2.toInt64 (0 : Int64) (24 : Int64) L) fun v2 L1 =>
  if v2 = 0 then (
    some ((-nI 2), L1, 0, 0)
  ) else (
    fw_cl (f_X0_isTwo x3 L1) fun v4 L3 =>
    if v4 = 0 then (
      some ((-nI 2), L3, 0, 0)
    ) else (
      fw_is 1 L3 j0 <|
      fw_cl (f_X0_yearsOf j0 x1 x2 x3 L3) fun v6 L5 =>
      some (v6, L5, 0, 0)
    )
  )
set_option maxHeartbeats 4000000 in
set_option maxRecDepth 100000 in
theorem w_X0_years_0 {K : Kx} {r9 : Int32} {L9 : LH} (hK : Ok K cX0_years 4 RX0 14 313) (hZ : fw_isZ K) (hF : Fin K (some (.int)) (some (aI r9)) L9) {j0 : Nat} {x1 : Int32} {x2 : Int32} {x3 : Int32} {L : LH} {mc ms : Nat} (h : f_X0_years j0 x1 x2 x3 L = some (r9, L9, mc, ms)) : AW K L mc ms 0 [(0, aR (some j0)), (1, aI x1), (2, aI x2), (3, aI x3)] [] := by
  unfold f_X0_years at h
  refine aw_iload_n hK 2 dX0_years_0 rfl rfl ?_
  refine aw_i2l hK dX0_years_1 ?_
  refine aw_lconst (v := 0) hK dX0_years_2 rfl ?_
  refine aw_ldc2 (v := 24) hK q971 dX0_years_3 ?_
  refine aw_callS_i (n := 3) hK (fun _ _ _ _ q => fw_czx hZ (ct_X0_in q)) (lw_S q310 q311 q94 q312) (by decide +kernel) (by decide) rfl rfl (Nat.le_of_ble_eq_true rfl) dX0_years_6 h (fun v2 L1 _ _ h => ?_)
  refine aw_if_eq (tgt := 29) hK dX0_years_9 (by decide) h (fun h => ?_) (fun h => ?_)
  · refine aw_bipush (v := (-nI 2)) hK dX0_years_29 rfl ?_
    exact aw_iret hK dX0_years_31 h hF
  · refine aw_iload_n hK 3 dX0_years_12 rfl rfl ?_
    refine aw_callS_i (n := 1) hK (fun _ _ _ _ q => fw_czx hZ (ct_X0_isTwo q)) (lw_S q707 q708 q94 q709) (by decide +kernel) (by decide) rfl rfl (Nat.le_of_ble_eq_true rfl) dX0_years_13 h (fun v4 L3 _ _ h => ?_)
    refine aw_if_eq (tgt := 29) hK dX0_years_16 (by decide) h (fun h => ?_) (fun h => ?_)
    · refine aw_bipush (v := (-nI 2)) hK dX0_years_29 rfl ?_
      exact aw_iret hK dX0_years_31 h hF
    · refine aw_aload_n hK 0 dX0_years_19 rfl rfl ?_
      refine aw_iload_n hK 1 dX0_years_20 rfl rfl ?_
      refine aw_iload_n hK 2 dX0_years_21 rfl rfl ?_
      refine aw_iload_n hK 3 dX0_years_22 rfl rfl ?_
      obtain ⟨hj, h⟩ := fw_is_h h
      refine aw_callQ_i hK (fun _ _ _ _ q => rq_VW (n := 3) hK (fw_rcvW hK fw_c0 hj) (fw_czx hZ (ct_X0_yearsOf q)) (lw_VW q1041 q1043 qs38 q94 q1044) (by decide +kernel) (by decide) rfl rfl (Nat.le_of_ble_eq_true rfl) dX0_years_23) (fw_mt (n := 4) rfl) h (fun v6 L5 _ _ h => ?_)
      refine aw_goto (tgt := 31) hK dX0_years_26 (by decide) ?_
      exact aw_iret hK dX0_years_31 h hF
theorem ct_X0_years {j0 : Nat} {x1 : Int32} {x2 : Int32} {x3 : Int32} {L : LH} {r9 : Int32} {L9 : LH} {mc ms : Nat} (h : f_X0_years j0 x1 x2 x3 L = some (r9, L9, mc, ms)) : fw_Cx yX0_years (ws_ yX0_years cX0_years 4 (some (.int))) 14 313 [aR (some j0), aI x1, aI x2, aI x3] L (some (aI r9)) L9 mc ms :=
  fun b1 b2 => ct_of (own := RX0) fw_ZX_ok (by decide +kernel) rfl (Nat.le_of_ble_eq_true rfl) (fun K hZ hK hF hini => w_X0_years_0 hK ⟨b1, b2, hZ⟩ hF h)
def f_X0_tellsPuller_195 : Nat → Nat → Int32 → Int64 → Int32 → LH → Rs Int64
  | 0, _, _, _, _, _ => none
  | n + 1, j0, x3, y4, x6, L =>
    if (nI 2) ≤ x6 then (
      fw_is 1 L j0 <|
      fw_cl (f_X0_askOf j0 x3 L) fun v2 L1 =>
      some ((((31 : Int64) * y4) + v2.toInt64), L1, 0, 0)
    ) else (
      fw_is 1 L j0 <|
      fw_cl (f_X0_wasOf j0 x3 x6 L) fun v4 L3 =>
      f_X0_tellsPuller_195 n j0 x3 (((31 : Int64) * y4) + v4.toInt64) (x6 + (nI 1)) L3
    )
def f_X0_tellsPuller_145 : Nat → Nat → Int32 → Int64 → Int32 → LH → Rs Int64
  | 0, _, _, _, _, _ => none
  | n + 1, j0, x3, y4, x6, L =>
    if (nI 2) ≤ x6 then (
      fw_gR 1 L j0 11 fun r1 =>
      fw_nn r1 fun j2 =>
      fw_rd 100 L j2 x3 fun v3 =>
      f_X0_tellsPuller_195 fw_fuel j0 x3 (((31 : Int64) * y4) + v3.toInt64) (nI 0) L
    ) else (
      fw_is 1 L j0 <|
      fw_cl (f_X0_atBy j0 (nI 23) x3 x6 L) fun v5 L4 =>
      f_X0_tellsPuller_145 n j0 x3 (((31 : Int64) * y4) + v5.toInt64) (x6 + (nI 1)) L4
    )
def f_X0_tellsPuller_111 : Nat → Nat → Int32 → Int64 → Int32 → LH → Rs Int64
  | 0, _, _, _, _, _ => none
  | n + 1, j0, x3, y4, x6, L =>
    if (nI 2) ≤ x6 then (
      f_X0_tellsPuller_145 fw_fuel j0 x3 y4 (nI 0) L
    ) else (
      fw_is 1 L j0 <|
      fw_cl (f_X0_atBy j0 (nI 12) x3 x6 L) fun v2 L1 =>
      f_X0_tellsPuller_111 n j0 x3 (((31 : Int64) * y4) + v2.toInt64) (x6 + (nI 1)) L1
    )
def f_X0_tellsPuller_78 : Nat → Nat → Int32 → Int64 → Int32 → LH → Rs Int64
  | 0, _, _, _, _, _ => none
  | n + 1, j0, x3, y4, x6, L =>
    if (nI 2) ≤ x6 then (
      f_X0_tellsPuller_111 fw_fuel j0 x3 y4 (nI 0) L
    ) else (
      fw_is 1 L j0 <|
      fw_cl (f_X0_atBy j0 (nI 5) x3 x6 L) fun v2 L1 =>
      f_X0_tellsPuller_78 n j0 x3 (((31 : Int64) * y4) + v2.toInt64) (x6 + (nI 1)) L1
    )
def f_X0_tellsPuller_45 : Nat → Nat → Int32 → Int64 → Int32 → LH → Rs Int64
  | 0, _, _, _, _, _ => none
  | n + 1, j0, x3, y4, x6, L =>
    if (nI 2) ≤ x6 then (
      f_X0_tellsPuller_78 fw_fuel j0 x3 y4 (nI 0) L
    ) else (
      fw_is 1 L j0 <|
      fw_cl (f_X0_atBy j0 (nI 0) x3 x6 L) fun v2 L1 =>
      f_X0_tellsPuller_45 n j0 x3 (((31 : Int64) * y4) + v2.toInt64) (x6 + (nI 1)) L1
    )
def f_X0_tellsPuller_10 : Nat → Nat → Int32 → Int64 → Int32 → LH → Rs Int64
  | 0, _, _, _, _, _ => none
  | n + 1, j0, x3, y4, x6, L =>
    if (nI 3) ≤ x6 then (
      f_X0_tellsPuller_45 fw_fuel j0 x3 y4 (nI 0) L
    ) else (
      fw_is 1 L j0 <|
      fw_cl (f_X0_pullerBy j0 x3 L) fun r2 L1 =>
      fw_nn r2 fun j5 =>
      fw_is 6 L1 j5 <|
      fw_cl (f_X7_by j5 x6 L1) fun v4 L3 =>
      f_X0_tellsPuller_10 n j0 x3 (((31 : Int64) * y4) + v4.toInt64) (x6 + (nI 1)) L3
    )
def f_X0_tellsPuller (j0 : Nat) (y1 : Int64) (x3 : Int32) (L : LH) : Rs Int64 :=
  fw_is 1 L j0 <|
  fw_cl (f_X0_find j0 L) fun _ L1 =>
  f_X0_tellsPuller_10 fw_fuel j0 x3 y1 (nI 0) L1
set_option maxHeartbeats 4000000 in
set_option maxRecDepth 100000 in
theorem w_X0_tellsPuller_195 {K : Kx} {r9 : Int64} {L9 : LH} (hK : Ok K cX0_tellsPuller 7 RX0 16 358) (hZ : fw_isZ K) (hF : Fin K (some (.long)) (some (aL r9)) L9) : ∀ {n : Nat} {j0 : Nat} {x3 : Int32} {y4 : Int64} {x6 : Int32} {L : LH} {mc ms : Nat}, f_X0_tellsPuller_195 n j0 x3 y4 x6 L = some (r9, L9, mc, ms) → AW K L mc ms 195 [(0, aR (some j0)), (3, aI x3), (4, aL y4), (6, aI x6)] [] := by
  intro n
  induction n with
  | zero =>
    intro j0 x3 y4 x6 L mc ms h
    have h : (none : Rs Int64) = some (r9, L9, mc, ms) := h
    cases h
  | succ n ih =>
    intro j0 x3 y4 x6 L mc ms h
    unfold f_X0_tellsPuller_195 at h
    refine aw_iload hK 3 dX0_tellsPuller_195 rfl ?_
    refine aw_iconst (v := (nI 2)) hK dX0_tellsPuller_197 rfl ?_
    refine aw_icmp_ge (tgt := 224) hK dX0_tellsPuller_198 (by decide) h (fun h => ?_) (fun h => ?_)
    · refine aw_ldc2 (v := 31) hK q1177 dX0_tellsPuller_224 ?_
      refine aw_lload hK 2 dX0_tellsPuller_227 rfl ?_
      refine aw_lmul hK dX0_tellsPuller_229 ?_
      refine aw_aload_n hK 0 dX0_tellsPuller_230 rfl rfl ?_
      refine aw_iload_n hK 1 dX0_tellsPuller_231 rfl rfl ?_
      obtain ⟨hj, h⟩ := fw_is_h h
      refine aw_callV_i (n := 1) hK fw_c0 hj (fun _ _ _ _ q => fw_czx hZ (ct_X0_askOf q)) (lw_V q1010 q1012 qs35 q94 q1013) (by decide +kernel) (by decide) rfl rfl (Nat.le_of_ble_eq_true rfl) dX0_tellsPuller_232 h (fun v2 L1 _ _ h => ?_)
      refine aw_i2l hK dX0_tellsPuller_235 ?_
      refine aw_ladd hK dX0_tellsPuller_236 ?_
      exact aw_lret hK dX0_tellsPuller_237 h hF
    · refine aw_ldc2 (v := 31) hK q1177 dX0_tellsPuller_201 ?_
      refine aw_lload hK 2 dX0_tellsPuller_204 rfl ?_
      refine aw_lmul hK dX0_tellsPuller_206 ?_
      refine aw_aload_n hK 0 dX0_tellsPuller_207 rfl rfl ?_
      refine aw_iload_n hK 1 dX0_tellsPuller_208 rfl rfl ?_
      refine aw_iload hK 3 dX0_tellsPuller_209 rfl ?_
      obtain ⟨hj, h⟩ := fw_is_h h
      refine aw_callV_i (n := 2) hK fw_c0 hj (fun _ _ _ _ q => fw_czx hZ (ct_X0_wasOf q)) (lw_V q993 q995 qs32 q94 q996) (by decide +kernel) (by decide) rfl rfl (Nat.le_of_ble_eq_true rfl) dX0_tellsPuller_211 h (fun v4 L3 _ _ h => ?_)
      refine aw_i2l hK dX0_tellsPuller_214 ?_
      refine aw_ladd hK dX0_tellsPuller_215 ?_
      refine aw_lstore (lv' := [(4, aL (((31 : Int64) * y4) + v4.toInt64)), (0, aR (some j0)), (3, aI x3), (6, aI x6)]) hK dX0_tellsPuller_216 (by decide) rfl ?_
      refine aw_iinc (v := (x6 + (nI 1))) (lv' := [(6, aI (x6 + (nI 1))), (4, aL (((31 : Int64) * y4) + v4.toInt64)), (0, aR (some j0)), (3, aI x3)]) hK 3 dX0_tellsPuller_218 rfl rfl (by decide) rfl ?_
      refine aw_goto (tgt := 195) hK dX0_tellsPuller_221 (by decide) ?_
      exact aw_sub [2, 3, 1, 0] rfl (ih h)
set_option maxHeartbeats 4000000 in
set_option maxRecDepth 100000 in
theorem w_X0_tellsPuller_145 {K : Kx} {r9 : Int64} {L9 : LH} (hK : Ok K cX0_tellsPuller 7 RX0 16 358) (hZ : fw_isZ K) (hF : Fin K (some (.long)) (some (aL r9)) L9) : ∀ {n : Nat} {j0 : Nat} {x3 : Int32} {y4 : Int64} {x6 : Int32} {L : LH} {mc ms : Nat}, f_X0_tellsPuller_145 n j0 x3 y4 x6 L = some (r9, L9, mc, ms) → AW K L mc ms 145 [(0, aR (some j0)), (3, aI x3), (4, aL y4), (6, aI x6)] [] := by
  intro n
  induction n with
  | zero =>
    intro j0 x3 y4 x6 L mc ms h
    have h : (none : Rs Int64) = some (r9, L9, mc, ms) := h
    cases h
  | succ n ih =>
    intro j0 x3 y4 x6 L mc ms h
    unfold f_X0_tellsPuller_145 at h
    refine aw_iload hK 3 dX0_tellsPuller_145 rfl ?_
    refine aw_iconst (v := (nI 2)) hK dX0_tellsPuller_147 rfl ?_
    refine aw_icmp_ge (tgt := 176) hK dX0_tellsPuller_148 (by decide) h (fun h => ?_) (fun h => ?_)
    · refine aw_ldc2 (v := 31) hK q1177 dX0_tellsPuller_176 ?_
      refine aw_lload hK 2 dX0_tellsPuller_179 rfl ?_
      refine aw_lmul hK dX0_tellsPuller_181 ?_
      refine aw_aload_n hK 0 dX0_tellsPuller_182 rfl rfl ?_
      refine aw_gR hK fw_c0 11 (by decide) rfl q237 (fun _ h9 => h9) dX0_tellsPuller_183 h (fun r1 h => ?_)
      refine aw_iload_n hK 1 dX0_tellsPuller_186 rfl rfl ?_
      obtain _ | j2 := r1
      · exact (fw_nn_no h).elim
      replace h := fw_nn_so h
      refine aw_iald hK dX0_tellsPuller_187 h (fun v3 h => ?_)
      refine aw_i2l hK dX0_tellsPuller_188 ?_
      refine aw_ladd hK dX0_tellsPuller_189 ?_
      refine aw_lstore (lv' := [(4, aL (((31 : Int64) * y4) + v3.toInt64)), (0, aR (some j0)), (3, aI x3), (6, aI x6)]) hK dX0_tellsPuller_190 (by decide) rfl ?_
      refine aw_iconst (v := (nI 0)) hK dX0_tellsPuller_192 rfl ?_
      refine aw_istore (lv' := [(6, aI (nI 0)), (4, aL (((31 : Int64) * y4) + v3.toInt64)), (0, aR (some j0)), (3, aI x3)]) hK dX0_tellsPuller_193 (by decide) rfl ?_
      exact aw_sub [2, 3, 1, 0] rfl (w_X0_tellsPuller_195 hK hZ hF h)
    · refine aw_ldc2 (v := 31) hK q1177 dX0_tellsPuller_151 ?_
      refine aw_lload hK 2 dX0_tellsPuller_154 rfl ?_
      refine aw_lmul hK dX0_tellsPuller_156 ?_
      refine aw_aload_n hK 0 dX0_tellsPuller_157 rfl rfl ?_
      refine aw_bipush (v := (nI 23)) hK dX0_tellsPuller_158 rfl ?_
      refine aw_iload_n hK 1 dX0_tellsPuller_160 rfl rfl ?_
      refine aw_iload hK 3 dX0_tellsPuller_161 rfl ?_
      obtain ⟨hj, h⟩ := fw_is_h h
      refine aw_callV_i (n := 3) hK fw_c0 hj (fun _ _ _ _ q => fw_czx hZ (ct_X0_atBy q)) (lw_V q878 q880 qs19 q94 q881) (by decide +kernel) (by decide) rfl rfl (Nat.le_of_ble_eq_true rfl) dX0_tellsPuller_163 h (fun v5 L4 _ _ h => ?_)
      refine aw_i2l hK dX0_tellsPuller_166 ?_
      refine aw_ladd hK dX0_tellsPuller_167 ?_
      refine aw_lstore (lv' := [(4, aL (((31 : Int64) * y4) + v5.toInt64)), (0, aR (some j0)), (3, aI x3), (6, aI x6)]) hK dX0_tellsPuller_168 (by decide) rfl ?_
      refine aw_iinc (v := (x6 + (nI 1))) (lv' := [(6, aI (x6 + (nI 1))), (4, aL (((31 : Int64) * y4) + v5.toInt64)), (0, aR (some j0)), (3, aI x3)]) hK 3 dX0_tellsPuller_170 rfl rfl (by decide) rfl ?_
      refine aw_goto (tgt := 145) hK dX0_tellsPuller_173 (by decide) ?_
      exact aw_sub [2, 3, 1, 0] rfl (ih h)
set_option maxHeartbeats 4000000 in
set_option maxRecDepth 100000 in
theorem w_X0_tellsPuller_111 {K : Kx} {r9 : Int64} {L9 : LH} (hK : Ok K cX0_tellsPuller 7 RX0 16 358) (hZ : fw_isZ K) (hF : Fin K (some (.long)) (some (aL r9)) L9) : ∀ {n : Nat} {j0 : Nat} {x3 : Int32} {y4 : Int64} {x6 : Int32} {L : LH} {mc ms : Nat}, f_X0_tellsPuller_111 n j0 x3 y4 x6 L = some (r9, L9, mc, ms) → AW K L mc ms 111 [(0, aR (some j0)), (3, aI x3), (4, aL y4), (6, aI x6)] [] := by
  intro n
  induction n with
  | zero =>
    intro j0 x3 y4 x6 L mc ms h
    have h : (none : Rs Int64) = some (r9, L9, mc, ms) := h
    cases h
  | succ n ih =>
    intro j0 x3 y4 x6 L mc ms h
    unfold f_X0_tellsPuller_111 at h
    refine aw_iload hK 3 dX0_tellsPuller_111 rfl ?_
    refine aw_iconst (v := (nI 2)) hK dX0_tellsPuller_113 rfl ?_
    refine aw_icmp_ge (tgt := 142) hK dX0_tellsPuller_114 (by decide) h (fun h => ?_) (fun h => ?_)
    · refine aw_iconst (v := (nI 0)) hK dX0_tellsPuller_142 rfl ?_
      refine aw_istore (lv' := [(6, aI (nI 0)), (0, aR (some j0)), (3, aI x3), (4, aL y4)]) hK dX0_tellsPuller_143 (by decide) rfl ?_
      exact aw_sub [1, 2, 3, 0] rfl (w_X0_tellsPuller_145 hK hZ hF h)
    · refine aw_ldc2 (v := 31) hK q1177 dX0_tellsPuller_117 ?_
      refine aw_lload hK 2 dX0_tellsPuller_120 rfl ?_
      refine aw_lmul hK dX0_tellsPuller_122 ?_
      refine aw_aload_n hK 0 dX0_tellsPuller_123 rfl rfl ?_
      refine aw_bipush (v := (nI 12)) hK dX0_tellsPuller_124 rfl ?_
      refine aw_iload_n hK 1 dX0_tellsPuller_126 rfl rfl ?_
      refine aw_iload hK 3 dX0_tellsPuller_127 rfl ?_
      obtain ⟨hj, h⟩ := fw_is_h h
      refine aw_callV_i (n := 3) hK fw_c0 hj (fun _ _ _ _ q => fw_czx hZ (ct_X0_atBy q)) (lw_V q878 q880 qs19 q94 q881) (by decide +kernel) (by decide) rfl rfl (Nat.le_of_ble_eq_true rfl) dX0_tellsPuller_129 h (fun v2 L1 _ _ h => ?_)
      refine aw_i2l hK dX0_tellsPuller_132 ?_
      refine aw_ladd hK dX0_tellsPuller_133 ?_
      refine aw_lstore (lv' := [(4, aL (((31 : Int64) * y4) + v2.toInt64)), (0, aR (some j0)), (3, aI x3), (6, aI x6)]) hK dX0_tellsPuller_134 (by decide) rfl ?_
      refine aw_iinc (v := (x6 + (nI 1))) (lv' := [(6, aI (x6 + (nI 1))), (4, aL (((31 : Int64) * y4) + v2.toInt64)), (0, aR (some j0)), (3, aI x3)]) hK 3 dX0_tellsPuller_136 rfl rfl (by decide) rfl ?_
      refine aw_goto (tgt := 111) hK dX0_tellsPuller_139 (by decide) ?_
      exact aw_sub [2, 3, 1, 0] rfl (ih h)
set_option maxHeartbeats 4000000 in
set_option maxRecDepth 100000 in
theorem w_X0_tellsPuller_78 {K : Kx} {r9 : Int64} {L9 : LH} (hK : Ok K cX0_tellsPuller 7 RX0 16 358) (hZ : fw_isZ K) (hF : Fin K (some (.long)) (some (aL r9)) L9) : ∀ {n : Nat} {j0 : Nat} {x3 : Int32} {y4 : Int64} {x6 : Int32} {L : LH} {mc ms : Nat}, f_X0_tellsPuller_78 n j0 x3 y4 x6 L = some (r9, L9, mc, ms) → AW K L mc ms 78 [(0, aR (some j0)), (3, aI x3), (4, aL y4), (6, aI x6)] [] := by
  intro n
  induction n with
  | zero =>
    intro j0 x3 y4 x6 L mc ms h
    have h : (none : Rs Int64) = some (r9, L9, mc, ms) := h
    cases h
  | succ n ih =>
    intro j0 x3 y4 x6 L mc ms h
    unfold f_X0_tellsPuller_78 at h
    refine aw_iload hK 3 dX0_tellsPuller_78 rfl ?_
    refine aw_iconst (v := (nI 2)) hK dX0_tellsPuller_80 rfl ?_
    refine aw_icmp_ge (tgt := 108) hK dX0_tellsPuller_81 (by decide) h (fun h => ?_) (fun h => ?_)
    · refine aw_iconst (v := (nI 0)) hK dX0_tellsPuller_108 rfl ?_
      refine aw_istore (lv' := [(6, aI (nI 0)), (0, aR (some j0)), (3, aI x3), (4, aL y4)]) hK dX0_tellsPuller_109 (by decide) rfl ?_
      exact aw_sub [1, 2, 3, 0] rfl (w_X0_tellsPuller_111 hK hZ hF h)
    · refine aw_ldc2 (v := 31) hK q1177 dX0_tellsPuller_84 ?_
      refine aw_lload hK 2 dX0_tellsPuller_87 rfl ?_
      refine aw_lmul hK dX0_tellsPuller_89 ?_
      refine aw_aload_n hK 0 dX0_tellsPuller_90 rfl rfl ?_
      refine aw_iconst (v := (nI 5)) hK dX0_tellsPuller_91 rfl ?_
      refine aw_iload_n hK 1 dX0_tellsPuller_92 rfl rfl ?_
      refine aw_iload hK 3 dX0_tellsPuller_93 rfl ?_
      obtain ⟨hj, h⟩ := fw_is_h h
      refine aw_callV_i (n := 3) hK fw_c0 hj (fun _ _ _ _ q => fw_czx hZ (ct_X0_atBy q)) (lw_V q878 q880 qs19 q94 q881) (by decide +kernel) (by decide) rfl rfl (Nat.le_of_ble_eq_true rfl) dX0_tellsPuller_95 h (fun v2 L1 _ _ h => ?_)
      refine aw_i2l hK dX0_tellsPuller_98 ?_
      refine aw_ladd hK dX0_tellsPuller_99 ?_
      refine aw_lstore (lv' := [(4, aL (((31 : Int64) * y4) + v2.toInt64)), (0, aR (some j0)), (3, aI x3), (6, aI x6)]) hK dX0_tellsPuller_100 (by decide) rfl ?_
      refine aw_iinc (v := (x6 + (nI 1))) (lv' := [(6, aI (x6 + (nI 1))), (4, aL (((31 : Int64) * y4) + v2.toInt64)), (0, aR (some j0)), (3, aI x3)]) hK 3 dX0_tellsPuller_102 rfl rfl (by decide) rfl ?_
      refine aw_goto (tgt := 78) hK dX0_tellsPuller_105 (by decide) ?_
      exact aw_sub [2, 3, 1, 0] rfl (ih h)
set_option maxHeartbeats 4000000 in
set_option maxRecDepth 100000 in
theorem w_X0_tellsPuller_45 {K : Kx} {r9 : Int64} {L9 : LH} (hK : Ok K cX0_tellsPuller 7 RX0 16 358) (hZ : fw_isZ K) (hF : Fin K (some (.long)) (some (aL r9)) L9) : ∀ {n : Nat} {j0 : Nat} {x3 : Int32} {y4 : Int64} {x6 : Int32} {L : LH} {mc ms : Nat}, f_X0_tellsPuller_45 n j0 x3 y4 x6 L = some (r9, L9, mc, ms) → AW K L mc ms 45 [(0, aR (some j0)), (3, aI x3), (4, aL y4), (6, aI x6)] [] := by
  intro n
  induction n with
  | zero =>
    intro j0 x3 y4 x6 L mc ms h
    have h : (none : Rs Int64) = some (r9, L9, mc, ms) := h
    cases h
  | succ n ih =>
    intro j0 x3 y4 x6 L mc ms h
    unfold f_X0_tellsPuller_45 at h
    refine aw_iload hK 3 dX0_tellsPuller_45 rfl ?_
    refine aw_iconst (v := (nI 2)) hK dX0_tellsPuller_47 rfl ?_
    refine aw_icmp_ge (tgt := 75) hK dX0_tellsPuller_48 (by decide) h (fun h => ?_) (fun h => ?_)
    · refine aw_iconst (v := (nI 0)) hK dX0_tellsPuller_75 rfl ?_
      refine aw_istore (lv' := [(6, aI (nI 0)), (0, aR (some j0)), (3, aI x3), (4, aL y4)]) hK dX0_tellsPuller_76 (by decide) rfl ?_
      exact aw_sub [1, 2, 3, 0] rfl (w_X0_tellsPuller_78 hK hZ hF h)
    · refine aw_ldc2 (v := 31) hK q1177 dX0_tellsPuller_51 ?_
      refine aw_lload hK 2 dX0_tellsPuller_54 rfl ?_
      refine aw_lmul hK dX0_tellsPuller_56 ?_
      refine aw_aload_n hK 0 dX0_tellsPuller_57 rfl rfl ?_
      refine aw_iconst (v := (nI 0)) hK dX0_tellsPuller_58 rfl ?_
      refine aw_iload_n hK 1 dX0_tellsPuller_59 rfl rfl ?_
      refine aw_iload hK 3 dX0_tellsPuller_60 rfl ?_
      obtain ⟨hj, h⟩ := fw_is_h h
      refine aw_callV_i (n := 3) hK fw_c0 hj (fun _ _ _ _ q => fw_czx hZ (ct_X0_atBy q)) (lw_V q878 q880 qs19 q94 q881) (by decide +kernel) (by decide) rfl rfl (Nat.le_of_ble_eq_true rfl) dX0_tellsPuller_62 h (fun v2 L1 _ _ h => ?_)
      refine aw_i2l hK dX0_tellsPuller_65 ?_
      refine aw_ladd hK dX0_tellsPuller_66 ?_
      refine aw_lstore (lv' := [(4, aL (((31 : Int64) * y4) + v2.toInt64)), (0, aR (some j0)), (3, aI x3), (6, aI x6)]) hK dX0_tellsPuller_67 (by decide) rfl ?_
      refine aw_iinc (v := (x6 + (nI 1))) (lv' := [(6, aI (x6 + (nI 1))), (4, aL (((31 : Int64) * y4) + v2.toInt64)), (0, aR (some j0)), (3, aI x3)]) hK 3 dX0_tellsPuller_69 rfl rfl (by decide) rfl ?_
      refine aw_goto (tgt := 45) hK dX0_tellsPuller_72 (by decide) ?_
      exact aw_sub [2, 3, 1, 0] rfl (ih h)
set_option maxHeartbeats 4000000 in
set_option maxRecDepth 100000 in
theorem w_X0_tellsPuller_10 {K : Kx} {r9 : Int64} {L9 : LH} (hK : Ok K cX0_tellsPuller 7 RX0 16 358) (hZ : fw_isZ K) (hF : Fin K (some (.long)) (some (aL r9)) L9) : ∀ {n : Nat} {j0 : Nat} {x3 : Int32} {y4 : Int64} {x6 : Int32} {L : LH} {mc ms : Nat}, f_X0_tellsPuller_10 n j0 x3 y4 x6 L = some (r9, L9, mc, ms) → AW K L mc ms 10 [(0, aR (some j0)), (3, aI x3), (4, aL y4), (6, aI x6)] [] := by
  intro n
  induction n with
  | zero =>
    intro j0 x3 y4 x6 L mc ms h
    have h : (none : Rs Int64) = some (r9, L9, mc, ms) := h
    cases h
  | succ n ih =>
    intro j0 x3 y4 x6 L mc ms h
    unfold f_X0_tellsPuller_10 at h
    refine aw_iload hK 3 dX0_tellsPuller_10 rfl ?_
    refine aw_iconst (v := (nI 3)) hK dX0_tellsPuller_12 rfl ?_
    refine aw_icmp_ge (tgt := 42) hK dX0_tellsPuller_13 (by decide) h (fun h => ?_) (fun h => ?_)
    · refine aw_iconst (v := (nI 0)) hK dX0_tellsPuller_42 rfl ?_
      refine aw_istore (lv' := [(6, aI (nI 0)), (0, aR (some j0)), (3, aI x3), (4, aL y4)]) hK dX0_tellsPuller_43 (by decide) rfl ?_
      exact aw_sub [1, 2, 3, 0] rfl (w_X0_tellsPuller_45 hK hZ hF h)
    · refine aw_ldc2 (v := 31) hK q1177 dX0_tellsPuller_16 ?_
      refine aw_lload hK 2 dX0_tellsPuller_19 rfl ?_
      refine aw_lmul hK dX0_tellsPuller_21 ?_
      refine aw_aload_n hK 0 dX0_tellsPuller_22 rfl rfl ?_
      refine aw_iload_n hK 1 dX0_tellsPuller_23 rfl rfl ?_
      obtain ⟨hj, h⟩ := fw_is_h h
      refine aw_callV_r (n := 1) hK fw_c0 hj (fun _ _ _ _ q => fw_czx hZ (ct_X0_pullerBy q)) (lw_V q665 q667 qs5 q94 q668) (by decide +kernel) (by decide) rfl rfl (Nat.le_of_ble_eq_true rfl) dX0_tellsPuller_24 h (fun r2 L1 _ _ h => ?_)
      refine aw_iload hK 3 dX0_tellsPuller_27 rfl ?_
      obtain _ | j5 := r2
      · exact (fw_nn_no h).elim
      replace h := fw_nn_so h
      obtain ⟨hj, h⟩ := fw_is_h h
      refine aw_callV_i (n := 1) hK fw_c5 hj (fun _ _ _ _ q => fw_czx hZ (ct_X7_by q)) (lw_V q684 q685 q686 q113 q687) (by decide +kernel) (by decide) rfl rfl (Nat.le_of_ble_eq_true rfl) dX0_tellsPuller_29 h (fun v4 L3 _ _ h => ?_)
      refine aw_i2l hK dX0_tellsPuller_32 ?_
      refine aw_ladd hK dX0_tellsPuller_33 ?_
      refine aw_lstore (lv' := [(4, aL (((31 : Int64) * y4) + v4.toInt64)), (0, aR (some j0)), (3, aI x3), (6, aI x6)]) hK dX0_tellsPuller_34 (by decide) rfl ?_
      refine aw_iinc (v := (x6 + (nI 1))) (lv' := [(6, aI (x6 + (nI 1))), (4, aL (((31 : Int64) * y4) + v4.toInt64)), (0, aR (some j0)), (3, aI x3)]) hK 3 dX0_tellsPuller_36 rfl rfl (by decide) rfl ?_
      refine aw_goto (tgt := 10) hK dX0_tellsPuller_39 (by decide) ?_
      exact aw_sub [2, 3, 1, 0] rfl (ih h)
set_option maxHeartbeats 4000000 in
set_option maxRecDepth 100000 in
theorem w_X0_tellsPuller_0 {K : Kx} {r9 : Int64} {L9 : LH} (hK : Ok K cX0_tellsPuller 7 RX0 16 358) (hZ : fw_isZ K) (hF : Fin K (some (.long)) (some (aL r9)) L9) {j0 : Nat} {y1 : Int64} {x3 : Int32} {L : LH} {mc ms : Nat} (h : f_X0_tellsPuller j0 y1 x3 L = some (r9, L9, mc, ms)) : AW K L mc ms 0 [(0, aR (some j0)), (1, aL y1), (3, aI x3)] [] := by
  unfold f_X0_tellsPuller at h
  refine aw_aload_n hK 0 dX0_tellsPuller_0 rfl rfl ?_
  obtain ⟨hj, h⟩ := fw_is_h h
  refine aw_callV_v (n := 0) hK fw_c0 hj (fun _ _ _ _ q => fw_czx hZ (ct_X0_find q)) (lw_V q781 q783 qs9 q94 q784) (by decide +kernel) (by decide) rfl rfl (Nat.le_of_ble_eq_true rfl) dX0_tellsPuller_1 h (fun _ L1 _ _ h => ?_)
  refine aw_lload_n hK 1 dX0_tellsPuller_4 rfl rfl ?_
  refine aw_lstore (lv' := [(4, aL y1), (0, aR (some j0)), (1, aL y1), (3, aI x3)]) hK dX0_tellsPuller_5 (by decide) rfl ?_
  refine aw_iconst (v := (nI 0)) hK dX0_tellsPuller_7 rfl ?_
  refine aw_istore (lv' := [(6, aI (nI 0)), (4, aL y1), (0, aR (some j0)), (1, aL y1), (3, aI x3)]) hK dX0_tellsPuller_8 (by decide) rfl ?_
  exact aw_sub [2, 4, 1, 0] rfl (w_X0_tellsPuller_10 hK hZ hF h)
theorem ct_X0_tellsPuller {j0 : Nat} {y1 : Int64} {x3 : Int32} {L : LH} {r9 : Int64} {L9 : LH} {mc ms : Nat} (h : f_X0_tellsPuller j0 y1 x3 L = some (r9, L9, mc, ms)) : fw_Cx yX0_tellsPuller (ws_ yX0_tellsPuller cX0_tellsPuller 7 (some (.long))) 16 358 [aR (some j0), aL y1, aI x3] L (some (aL r9)) L9 mc ms :=
  fun b1 b2 => ct_of (own := RX0) fw_ZX_ok (by decide +kernel) rfl (Nat.le_of_ble_eq_true rfl) (fun K hZ hK hF hini => w_X0_tellsPuller_0 hK ⟨b1, b2, hZ⟩ hF h)
def f_X0_spare (j0 : Nat) (x1 : Int32) (L : LH) : Rs Int32 :=
  fw_cl (f_X0_in x1.toInt64 (-1 : Int64) (1 : Int64) L) fun v2 L1 =>
  if v2 = 0 then (
    some ((-nI 2), L1, 0, 0)
  ) else (
    fw_is 1 L1 j0 <|
    fw_cl (f_X0_spareBy j0 x1 L1) fun v4 L3 =>
    some (v4, L3, 0, 0)
  )
set_option maxHeartbeats 4000000 in
set_option maxRecDepth 100000 in
theorem w_X0_spare_0 {K : Kx} {r9 : Int32} {L9 : LH} (hK : Ok K cX0_spare 2 RX0 15 334) (hZ : fw_isZ K) (hF : Fin K (some (.int)) (some (aI r9)) L9) {j0 : Nat} {x1 : Int32} {L : LH} {mc ms : Nat} (h : f_X0_spare j0 x1 L = some (r9, L9, mc, ms)) : AW K L mc ms 0 [(0, aR (some j0)), (1, aI x1)] [] := by
  unfold f_X0_spare at h
  refine aw_iload_n hK 1 dX0_spare_0 rfl rfl ?_
  refine aw_i2l hK dX0_spare_1 ?_
  refine aw_ldc2 (v := -1) hK q958 dX0_spare_2 ?_
  refine aw_lconst (v := 1) hK dX0_spare_5 rfl ?_
  refine aw_callS_i (n := 3) hK (fun _ _ _ _ q => fw_czx hZ (ct_X0_in q)) (lw_S q310 q311 q94 q312) (by decide +kernel) (by decide) rfl rfl (Nat.le_of_ble_eq_true rfl) dX0_spare_6 h (fun v2 L1 _ _ h => ?_)
  refine aw_if_eq (tgt := 20) hK dX0_spare_9 (by decide) h (fun h => ?_) (fun h => ?_)
  · refine aw_bipush (v := (-nI 2)) hK dX0_spare_20 rfl ?_
    exact aw_iret hK dX0_spare_22 h hF
  · refine aw_aload_n hK 0 dX0_spare_12 rfl rfl ?_
    refine aw_iload_n hK 1 dX0_spare_13 rfl rfl ?_
    obtain ⟨hj, h⟩ := fw_is_h h
    refine aw_callV_i (n := 1) hK fw_c0 hj (fun _ _ _ _ q => fw_czx hZ (ct_X0_spareBy q)) (lw_V q959 q961 qs28 q94 q962) (by decide +kernel) (by decide) rfl rfl (Nat.le_of_ble_eq_true rfl) dX0_spare_14 h (fun v4 L3 _ _ h => ?_)
    refine aw_goto (tgt := 22) hK dX0_spare_17 (by decide) ?_
    exact aw_iret hK dX0_spare_22 h hF
theorem ct_X0_spare {j0 : Nat} {x1 : Int32} {L : LH} {r9 : Int32} {L9 : LH} {mc ms : Nat} (h : f_X0_spare j0 x1 L = some (r9, L9, mc, ms)) : fw_Cx yX0_spare (ws_ yX0_spare cX0_spare 2 (some (.int))) 15 334 [aR (some j0), aI x1] L (some (aI r9)) L9 mc ms :=
  fun b1 b2 => ct_of (own := RX0) fw_ZX_ok (by decide +kernel) rfl (Nat.le_of_ble_eq_true rfl) (fun K hZ hK hF hini => w_X0_spare_0 hK ⟨b1, b2, hZ⟩ hF h)
def f_X0_never (j0 : Nat) (L : LH) : Rs Int32 :=
  fw_is 1 L j0 <|
  fw_cl (f_X0_neverNow j0 L) fun v2 L1 =>
  some (v2, L1, 0, 0)
set_option maxHeartbeats 4000000 in
set_option maxRecDepth 100000 in
theorem w_X0_never_0 {K : Kx} {r9 : Int32} {L9 : LH} (hK : Ok K cX0_never 1 RX0 15 332) (hZ : fw_isZ K) (hF : Fin K (some (.int)) (some (aI r9)) L9) {j0 : Nat} {L : LH} {mc ms : Nat} (h : f_X0_never j0 L = some (r9, L9, mc, ms)) : AW K L mc ms 0 [(0, aR (some j0))] [] := by
  unfold f_X0_never at h
  refine aw_aload_n hK 0 dX0_never_0 rfl rfl ?_
  obtain ⟨hj, h⟩ := fw_is_h h
  refine aw_callQ_i hK (fun _ _ _ _ q => rq_VW (n := 0) hK (fw_rcvW hK fw_c0 hj) (fw_czx hZ (ct_X0_neverNow q)) (lw_VW q981 q983 qs30 q94 q984) (by decide +kernel) (by decide) rfl rfl (Nat.le_of_ble_eq_true rfl) dX0_never_1) (fw_mt (n := 1) rfl) h (fun v2 L1 _ _ h => ?_)
  exact aw_iret hK dX0_never_4 h hF
theorem ct_X0_never {j0 : Nat} {L : LH} {r9 : Int32} {L9 : LH} {mc ms : Nat} (h : f_X0_never j0 L = some (r9, L9, mc, ms)) : fw_Cx yX0_never (ws_ yX0_never cX0_never 1 (some (.int))) 15 332 [aR (some j0)] L (some (aI r9)) L9 mc ms :=
  fun b1 b2 => ct_of (own := RX0) fw_ZX_ok (by decide +kernel) rfl (Nat.le_of_ble_eq_true rfl) (fun K hZ hK hF hini => w_X0_never_0 hK ⟨b1, b2, hZ⟩ hF h)
def f_X0_was (j0 : Nat) (x1 : Int32) (x2 : Int32) (L : LH) : Rs Int32 :=
  fw_is 1 L j0 <|
  fw_cl (f_X0_isPuller j0 x1 L) fun v2 L1 =>
  if v2 = 0 then (
    some ((-nI 2), L1, 0, 0)
  ) else (
    fw_cl (f_X0_isTwo x2 L1) fun v4 L3 =>
    if v4 = 0 then (
      some ((-nI 2), L3, 0, 0)
    ) else (
      fw_is 1 L3 j0 <|
      fw_cl (f_X0_wasOf j0 x1 x2 L3) fun v6 L5 =>
      some (v6, L5, 0, 0)
    )
  )
set_option maxHeartbeats 4000000 in
set_option maxRecDepth 100000 in
theorem w_X0_was_0 {K : Kx} {r9 : Int32} {L9 : LH} (hK : Ok K cX0_was 3 RX0 16 356) (hZ : fw_isZ K) (hF : Fin K (some (.int)) (some (aI r9)) L9) {j0 : Nat} {x1 : Int32} {x2 : Int32} {L : LH} {mc ms : Nat} (h : f_X0_was j0 x1 x2 L = some (r9, L9, mc, ms)) : AW K L mc ms 0 [(0, aR (some j0)), (1, aI x1), (2, aI x2)] [] := by
  unfold f_X0_was at h
  refine aw_aload_n hK 0 dX0_was_0 rfl rfl ?_
  refine aw_iload_n hK 1 dX0_was_1 rfl rfl ?_
  obtain ⟨hj, h⟩ := fw_is_h h
  refine aw_callV_i (n := 1) hK fw_c0 hj (fun _ _ _ _ q => fw_czx hZ (ct_X0_isPuller q)) (lw_V q651 q653 qs4 q94 q654) (by decide +kernel) (by decide) rfl rfl (Nat.le_of_ble_eq_true rfl) dX0_was_2 h (fun v2 L1 _ _ h => ?_)
  refine aw_if_eq (tgt := 24) hK dX0_was_5 (by decide) h (fun h => ?_) (fun h => ?_)
  · refine aw_bipush (v := (-nI 2)) hK dX0_was_24 rfl ?_
    exact aw_iret hK dX0_was_26 h hF
  · refine aw_iload_n hK 2 dX0_was_8 rfl rfl ?_
    refine aw_callS_i (n := 1) hK (fun _ _ _ _ q => fw_czx hZ (ct_X0_isTwo q)) (lw_S q707 q708 q94 q709) (by decide +kernel) (by decide) rfl rfl (Nat.le_of_ble_eq_true rfl) dX0_was_9 h (fun v4 L3 _ _ h => ?_)
    refine aw_if_eq (tgt := 24) hK dX0_was_12 (by decide) h (fun h => ?_) (fun h => ?_)
    · refine aw_bipush (v := (-nI 2)) hK dX0_was_24 rfl ?_
      exact aw_iret hK dX0_was_26 h hF
    · refine aw_aload_n hK 0 dX0_was_15 rfl rfl ?_
      refine aw_iload_n hK 1 dX0_was_16 rfl rfl ?_
      refine aw_iload_n hK 2 dX0_was_17 rfl rfl ?_
      obtain ⟨hj, h⟩ := fw_is_h h
      refine aw_callV_i (n := 2) hK fw_c0 hj (fun _ _ _ _ q => fw_czx hZ (ct_X0_wasOf q)) (lw_V q993 q995 qs32 q94 q996) (by decide +kernel) (by decide) rfl rfl (Nat.le_of_ble_eq_true rfl) dX0_was_18 h (fun v6 L5 _ _ h => ?_)
      refine aw_goto (tgt := 26) hK dX0_was_21 (by decide) ?_
      exact aw_iret hK dX0_was_26 h hF
theorem ct_X0_was {j0 : Nat} {x1 : Int32} {x2 : Int32} {L : LH} {r9 : Int32} {L9 : LH} {mc ms : Nat} (h : f_X0_was j0 x1 x2 L = some (r9, L9, mc, ms)) : fw_Cx yX0_was (ws_ yX0_was cX0_was 3 (some (.int))) 16 356 [aR (some j0), aI x1, aI x2] L (some (aI r9)) L9 mc ms :=
  fun b1 b2 => ct_of (own := RX0) fw_ZX_ok (by decide +kernel) rfl (Nat.le_of_ble_eq_true rfl) (fun K hZ hK hF hini => w_X0_was_0 hK ⟨b1, b2, hZ⟩ hF h)
def f_X0_digest_106 (rec67 : Nat → Int64 → Int32 → LH → Rs Int64) : Nat → Nat → Int64 → Int32 → Int32 → LH → Rs Int64
  | 0, _, _, _, _, _ => none
  | n + 1, j0, y1, x3, x4, L =>
    if (nI 4) ≤ x4 then (
      rec67 j0 y1 (x3 + (nI 1)) L
    ) else (
      fw_gR 1 L j0 12 fun r1 =>
      fw_nn r1 fun j2 =>
      fw_rq 110 L j2 x3 fun r3 =>
      fw_nn r3 fun j4 =>
      fw_rd 100 L j4 x4 fun v5 =>
      f_X0_digest_106 rec67 n j0 (((31 : Int64) * y1) + v5.toInt64) x3 (x4 + (nI 1)) L
    )
def f_X0_digest_76 (rec67 : Nat → Int64 → Int32 → LH → Rs Int64) : Nat → Nat → Int64 → Int32 → Int32 → LH → Rs Int64
  | 0, _, _, _, _, _ => none
  | n + 1, j0, y1, x3, x4, L =>
    if (nI 2) ≤ x4 then (
      f_X0_digest_106 rec67 fw_fuel j0 y1 x3 (nI 0) L
    ) else (
      fw_is 1 L j0 <|
      fw_cl (f_X0_callBy j0 x4 x3 L) fun v2 L1 =>
      f_X0_digest_76 rec67 n j0 (((31 : Int64) * y1) + v2.toInt64) x3 (x4 + (nI 1)) L1
    )
def f_X0_digest_164 (rec143 : Nat → Int64 → Int32 → LH → Rs Int64) (j0 : Nat) (y1 : Int64) (x3 : Int32) (L : LH) : Rs Int64 :=
  rec143 j0 y1 (x3 + (nI 1)) L
def f_X0_digest_320 : Nat → Nat → Int64 → Int32 → LH → Rs Int64
  | 0, _, _, _, _ => none
  | n + 1, j0, y1, x3, L =>
    if (nI 2) ≤ x3 then (
      some (y1, L, 0, 0)
    ) else (
      fw_is 1 L j0 <|
      fw_cl (f_X0_yearsOf j0 (nI 7) (nI 18) x3 L) fun v2 L1 =>
      f_X0_digest_320 n j0 (((31 : Int64) * y1) + v2.toInt64) (x3 + (nI 1)) L1
    )
def f_X0_digest_282 : Nat → Nat → Int64 → Int32 → LH → Rs Int64
  | 0, _, _, _, _ => none
  | n + 1, j0, y1, x3, L =>
    if (nI 1) ≤ x3 then (
      fw_is 1 L j0 <|
      fw_cl (f_X0_neverNow j0 L) fun v2 L1 =>
      f_X0_digest_320 fw_fuel j0 (((31 : Int64) * y1) + v2.toInt64) (nI 0) L1
    ) else (
      fw_is 1 L j0 <|
      fw_cl (f_X0_spareBy j0 x3 L) fun v4 L3 =>
      f_X0_digest_282 n j0 (((31 : Int64) * y1) + v4.toInt64) (x3 + (nI 1)) L3
    )
def f_X0_digest_220 : Nat → Nat → Int64 → Int32 → LH → Rs Int64
  | 0, _, _, _, _ => none
  | n + 1, j0, y1, x3, L =>
    if (nI 2) ≤ x3 then (
      fw_is 1 L j0 <|
      fw_cl (f_X0_spentNow j0 L) fun v2 L1 =>
      fw_is 1 L1 j0 <|
      fw_cl (f_X0_bestNow j0 L1) fun v4 L3 =>
      fw_gI 1 L3 j0 9 fun v5 =>
      f_X0_digest_282 fw_fuel j0 (((31 : Int64) * (((31 : Int64) * (((31 : Int64) * y1) + v2.toInt64)) + v4.toInt64)) + v5.toInt64) (-nI 1) L3
    ) else (
      fw_is 1 L j0 <|
      fw_cl (f_X0_furthestBy j0 x3 L) fun v7 L6 =>
      f_X0_digest_220 n j0 (((31 : Int64) * y1) + v7.toInt64) (x3 + (nI 1)) L6
    )
def f_X0_digest_172 : Nat → Nat → Int64 → Int32 → LH → Rs Int64
  | 0, _, _, _, _ => none
  | n + 1, j0, y1, x3, L =>
    if (nI 2) ≤ x3 then (
      fw_is 1 L j0 <|
      fw_cl (f_X0_find j0 L) fun _ L1 =>
      fw_is 1 L1 j0 <|
      fw_cl (f_X0_winner j0 L1) fun v3 L2 =>
      fw_gI 1 L2 j0 8 fun v4 =>
      f_X0_digest_220 fw_fuel j0 (((31 : Int64) * (((31 : Int64) * y1) + v3.toInt64)) + v4.toInt64) (nI 0) L2
    ) else (
      fw_is 1 L j0 <|
      fw_cl (f_X0_tellsTeam j0 y1 x3 L) fun v6 L5 =>
      f_X0_digest_172 n j0 v6 (x3 + (nI 1)) L5
    )
def f_X0_digest_143 : Nat → Nat → Int64 → Int32 → LH → Rs Int64
  | 0, _, _, _, _ => none
  | n + 1, j0, y1, x3, L =>
    if (nI 16) ≤ x3 then (
      f_X0_digest_172 fw_fuel j0 y1 (nI 0) L
    ) else (
      fw_is 1 L j0 <|
      fw_cl (f_X0_isPuller j0 x3 L) fun v2 L1 =>
      if v2 = 0 then (
        f_X0_digest_164 (f_X0_digest_143 n) j0 y1 x3 L1
      ) else (
        fw_is 1 L1 j0 <|
        fw_cl (f_X0_tellsPuller j0 y1 x3 L1) fun v4 L3 =>
        f_X0_digest_164 (f_X0_digest_143 n) j0 v4 x3 L3
      )
    )
def f_X0_digest_67 : Nat → Nat → Int64 → Int32 → LH → Rs Int64
  | 0, _, _, _, _ => none
  | n + 1, j0, y1, x3, L =>
    if (nI 24) ≤ x3 then (
      f_X0_digest_143 fw_fuel j0 y1 (nI 0) L
    ) else (
      f_X0_digest_76 (f_X0_digest_67 n) fw_fuel j0 y1 x3 (nI 0) L
    )
def f_X0_digest_33 : Nat → Nat → Int64 → Int32 → LH → Rs Int64
  | 0, _, _, _, _ => none
  | n + 1, j0, y1, x3, L =>
    if (nI 4) ≤ x3 then (
      fw_is 1 L j0 <|
      fw_cl (f_X0_find j0 L) fun _ L1 =>
      f_X0_digest_67 fw_fuel j0 y1 (nI 0) L1
    ) else (
      fw_gR 1 L j0 3 fun r2 =>
      fw_nn r2 fun j3 =>
      fw_rq 108 L j3 x3 fun r4 =>
      fw_nn r4 fun j7 =>
      fw_cl (fw_td L j7 (f_X1_read j7 L) (f_X1_read j7 L)) fun v6 L5 =>
      f_X0_digest_33 n j0 (((31 : Int64) * y1) + v6.toInt64) (x3 + (nI 1)) L5
    )
def f_X0_digest_6 : Nat → Nat → Int64 → Int32 → LH → Rs Int64
  | 0, _, _, _, _ => none
  | n + 1, j0, y1, x3, L =>
    if (nI 8) ≤ x3 then (
      f_X0_digest_33 fw_fuel j0 y1 (nI 0) L
    ) else (
      fw_is 1 L j0 <|
      fw_cl (f_X0_count j0 x3 L) fun v2 L1 =>
      f_X0_digest_6 n j0 (((31 : Int64) * y1) + v2.toInt64) (x3 + (nI 1)) L1
    )
def f_X0_digest (j0 : Nat) (L : LH) : Rs Int64 :=
  f_X0_digest_6 fw_fuel j0 (17 : Int64) (nI 0) L
set_option maxHeartbeats 4000000 in
set_option maxRecDepth 100000 in
theorem w_X0_digest_106 {K : Kx} {r9 : Int64} {L9 : LH} (hK : Ok K cX0_digest 5 RX0 134 3093) (hZ : fw_isZ K) (hF : Fin K (some (.long)) (some (aL r9)) L9) {rec67 : Nat → Int64 → Int32 → LH → Rs Int64} (hrec67 : ∀ {j0 : Nat} {y1 : Int64} {x3 : Int32} {L : LH} {mc ms : Nat}, rec67 j0 y1 x3 L = some (r9, L9, mc, ms) → AW K L mc ms 67 [(0, aR (some j0)), (1, aL y1), (3, aI x3)] []) : ∀ {n : Nat} {j0 : Nat} {y1 : Int64} {x3 : Int32} {x4 : Int32} {L : LH} {mc ms : Nat}, f_X0_digest_106 rec67 n j0 y1 x3 x4 L = some (r9, L9, mc, ms) → AW K L mc ms 106 [(0, aR (some j0)), (1, aL y1), (3, aI x3), (4, aI x4)] [] := by
  intro n
  induction n with
  | zero =>
    intro j0 y1 x3 x4 L mc ms h
    have h : (none : Rs Int64) = some (r9, L9, mc, ms) := h
    cases h
  | succ n ih =>
    intro j0 y1 x3 x4 L mc ms h
    unfold f_X0_digest_106 at h
    refine aw_iload hK 3 dX0_digest_106 rfl ?_
    refine aw_iconst (v := (nI 4)) hK dX0_digest_108 rfl ?_
    refine aw_icmp_ge (tgt := 135) hK dX0_digest_109 (by decide) h (fun h => ?_) (fun h => ?_)
    · refine aw_iinc (v := (x3 + (nI 1))) (lv' := [(3, aI (x3 + (nI 1))), (0, aR (some j0)), (1, aL y1), (4, aI x4)]) hK 2 dX0_digest_135 rfl rfl (by decide) rfl ?_
      refine aw_goto (tgt := 67) hK dX0_digest_138 (by decide) ?_
      exact aw_sub [1, 2, 0] rfl (hrec67 h)
    · refine aw_ldc2 (v := 31) hK q1177 dX0_digest_112 ?_
      refine aw_lload_n hK 1 dX0_digest_115 rfl rfl ?_
      refine aw_lmul hK dX0_digest_116 ?_
      refine aw_aload_n hK 0 dX0_digest_117 rfl rfl ?_
      refine aw_gR hK fw_c0 12 (by decide) rfl q238 (fun _ h9 => h9) dX0_digest_118 h (fun r1 h => ?_)
      refine aw_iload_n hK 2 dX0_digest_121 rfl rfl ?_
      obtain _ | j2 := r1
      · exact (fw_nn_no h).elim
      replace h := fw_nn_so h
      refine aw_aald hK 10 (by decide) rfl dX0_digest_122 h (fun r3 h => ?_)
      refine aw_iload hK 3 dX0_digest_123 rfl ?_
      obtain _ | j4 := r3
      · exact (fw_nn_no h).elim
      replace h := fw_nn_so h
      refine aw_iald hK dX0_digest_125 h (fun v5 h => ?_)
      refine aw_i2l hK dX0_digest_126 ?_
      refine aw_ladd hK dX0_digest_127 ?_
      refine aw_lstore_n (lv' := [(1, aL (((31 : Int64) * y1) + v5.toInt64)), (0, aR (some j0)), (3, aI x3), (4, aI x4)]) hK dX0_digest_128 rfl (by decide) rfl ?_
      refine aw_iinc (v := (x4 + (nI 1))) (lv' := [(4, aI (x4 + (nI 1))), (1, aL (((31 : Int64) * y1) + v5.toInt64)), (0, aR (some j0)), (3, aI x3)]) hK 3 dX0_digest_129 rfl rfl (by decide) rfl ?_
      refine aw_goto (tgt := 106) hK dX0_digest_132 (by decide) ?_
      exact aw_sub [2, 1, 3, 0] rfl (ih h)
set_option maxHeartbeats 4000000 in
set_option maxRecDepth 100000 in
theorem w_X0_digest_76 {K : Kx} {r9 : Int64} {L9 : LH} (hK : Ok K cX0_digest 5 RX0 134 3093) (hZ : fw_isZ K) (hF : Fin K (some (.long)) (some (aL r9)) L9) {rec67 : Nat → Int64 → Int32 → LH → Rs Int64} (hrec67 : ∀ {j0 : Nat} {y1 : Int64} {x3 : Int32} {L : LH} {mc ms : Nat}, rec67 j0 y1 x3 L = some (r9, L9, mc, ms) → AW K L mc ms 67 [(0, aR (some j0)), (1, aL y1), (3, aI x3)] []) : ∀ {n : Nat} {j0 : Nat} {y1 : Int64} {x3 : Int32} {x4 : Int32} {L : LH} {mc ms : Nat}, f_X0_digest_76 rec67 n j0 y1 x3 x4 L = some (r9, L9, mc, ms) → AW K L mc ms 76 [(0, aR (some j0)), (1, aL y1), (3, aI x3), (4, aI x4)] [] := by
  intro n
  induction n with
  | zero =>
    intro j0 y1 x3 x4 L mc ms h
    have h : (none : Rs Int64) = some (r9, L9, mc, ms) := h
    cases h
  | succ n ih =>
    intro j0 y1 x3 x4 L mc ms h
    unfold f_X0_digest_76 at h
    refine aw_iload hK 3 dX0_digest_76 rfl ?_
    refine aw_iconst (v := (nI 2)) hK dX0_digest_78 rfl ?_
    refine aw_icmp_ge (tgt := 103) hK dX0_digest_79 (by decide) h (fun h => ?_) (fun h => ?_)
    · refine aw_iconst (v := (nI 0)) hK dX0_digest_103 rfl ?_
      refine aw_istore (lv' := [(4, aI (nI 0)), (0, aR (some j0)), (1, aL y1), (3, aI x3)]) hK dX0_digest_104 (by decide) rfl ?_
      exact aw_sub [1, 2, 3, 0] rfl (w_X0_digest_106 hK hZ hF (fun h => hrec67 h) h)
    · refine aw_ldc2 (v := 31) hK q1177 dX0_digest_82 ?_
      refine aw_lload_n hK 1 dX0_digest_85 rfl rfl ?_
      refine aw_lmul hK dX0_digest_86 ?_
      refine aw_aload_n hK 0 dX0_digest_87 rfl rfl ?_
      refine aw_iload hK 3 dX0_digest_88 rfl ?_
      refine aw_iload_n hK 2 dX0_digest_90 rfl rfl ?_
      obtain ⟨hj, h⟩ := fw_is_h h
      refine aw_callV_i (n := 2) hK fw_c0 hj (fun _ _ _ _ q => fw_czx hZ (ct_X0_callBy q)) (lw_V q714 q716 qs6 q94 q717) (by decide +kernel) (by decide) rfl rfl (Nat.le_of_ble_eq_true rfl) dX0_digest_91 h (fun v2 L1 _ _ h => ?_)
      refine aw_i2l hK dX0_digest_94 ?_
      refine aw_ladd hK dX0_digest_95 ?_
      refine aw_lstore_n (lv' := [(1, aL (((31 : Int64) * y1) + v2.toInt64)), (0, aR (some j0)), (3, aI x3), (4, aI x4)]) hK dX0_digest_96 rfl (by decide) rfl ?_
      refine aw_iinc (v := (x4 + (nI 1))) (lv' := [(4, aI (x4 + (nI 1))), (1, aL (((31 : Int64) * y1) + v2.toInt64)), (0, aR (some j0)), (3, aI x3)]) hK 3 dX0_digest_97 rfl rfl (by decide) rfl ?_
      refine aw_goto (tgt := 76) hK dX0_digest_100 (by decide) ?_
      exact aw_sub [2, 1, 3, 0] rfl (ih h)
set_option maxHeartbeats 4000000 in
set_option maxRecDepth 100000 in
theorem w_X0_digest_164 {K : Kx} {r9 : Int64} {L9 : LH} (hK : Ok K cX0_digest 5 RX0 134 3093) (hZ : fw_isZ K) (hF : Fin K (some (.long)) (some (aL r9)) L9) {rec143 : Nat → Int64 → Int32 → LH → Rs Int64} (hrec143 : ∀ {j0 : Nat} {y1 : Int64} {x3 : Int32} {L : LH} {mc ms : Nat}, rec143 j0 y1 x3 L = some (r9, L9, mc, ms) → AW K L mc ms 143 [(0, aR (some j0)), (1, aL y1), (3, aI x3)] []) {j0 : Nat} {y1 : Int64} {x3 : Int32} {L : LH} {mc ms : Nat} (h : f_X0_digest_164 rec143 j0 y1 x3 L = some (r9, L9, mc, ms)) : AW K L mc ms 164 [(0, aR (some j0)), (1, aL y1), (3, aI x3)] [] := by
  unfold f_X0_digest_164 at h
  refine aw_iinc (v := (x3 + (nI 1))) (lv' := [(3, aI (x3 + (nI 1))), (0, aR (some j0)), (1, aL y1)]) hK 2 dX0_digest_164 rfl rfl (by decide) rfl ?_
  refine aw_goto (tgt := 143) hK dX0_digest_167 (by decide) ?_
  exact aw_sub [1, 2, 0] rfl (hrec143 h)
set_option maxHeartbeats 4000000 in
set_option maxRecDepth 100000 in
theorem w_X0_digest_320 {K : Kx} {r9 : Int64} {L9 : LH} (hK : Ok K cX0_digest 5 RX0 134 3093) (hZ : fw_isZ K) (hF : Fin K (some (.long)) (some (aL r9)) L9) : ∀ {n : Nat} {j0 : Nat} {y1 : Int64} {x3 : Int32} {L : LH} {mc ms : Nat}, f_X0_digest_320 n j0 y1 x3 L = some (r9, L9, mc, ms) → AW K L mc ms 320 [(0, aR (some j0)), (1, aL y1), (3, aI x3)] [] := by
  intro n
  induction n with
  | zero =>
    intro j0 y1 x3 L mc ms h
    have h : (none : Rs Int64) = some (r9, L9, mc, ms) := h
    cases h
  | succ n ih =>
    intro j0 y1 x3 L mc ms h
    unfold f_X0_digest_320 at h
    refine aw_iload_n hK 2 dX0_digest_320 rfl rfl ?_
    refine aw_iconst (v := (nI 2)) hK dX0_digest_321 rfl ?_
    refine aw_icmp_ge (tgt := 348) hK dX0_digest_322 (by decide) h (fun h => ?_) (fun h => ?_)
    · refine aw_lload_n hK 1 dX0_digest_348 rfl rfl ?_
      exact aw_lret hK dX0_digest_349 h hF
    · refine aw_ldc2 (v := 31) hK q1177 dX0_digest_325 ?_
      refine aw_lload_n hK 1 dX0_digest_328 rfl rfl ?_
      refine aw_lmul hK dX0_digest_329 ?_
      refine aw_aload_n hK 0 dX0_digest_330 rfl rfl ?_
      refine aw_bipush (v := (nI 7)) hK dX0_digest_331 rfl ?_
      refine aw_bipush (v := (nI 18)) hK dX0_digest_333 rfl ?_
      refine aw_iload_n hK 2 dX0_digest_335 rfl rfl ?_
      obtain ⟨hj, h⟩ := fw_is_h h
      refine aw_callQ_i hK (fun _ _ _ _ q => rq_VW (n := 3) hK (fw_rcvW hK fw_c0 hj) (fw_czx hZ (ct_X0_yearsOf q)) (lw_VW q1041 q1043 qs38 q94 q1044) (by decide +kernel) (by decide) rfl rfl (Nat.le_of_ble_eq_true rfl) dX0_digest_336) (fw_mt (n := 4) rfl) h (fun v2 L1 _ _ h => ?_)
      refine aw_i2l hK dX0_digest_339 ?_
      refine aw_ladd hK dX0_digest_340 ?_
      refine aw_lstore_n (lv' := [(1, aL (((31 : Int64) * y1) + v2.toInt64)), (0, aR (some j0)), (3, aI x3)]) hK dX0_digest_341 rfl (by decide) rfl ?_
      refine aw_iinc (v := (x3 + (nI 1))) (lv' := [(3, aI (x3 + (nI 1))), (1, aL (((31 : Int64) * y1) + v2.toInt64)), (0, aR (some j0))]) hK 2 dX0_digest_342 rfl rfl (by decide) rfl ?_
      refine aw_goto (tgt := 320) hK dX0_digest_345 (by decide) ?_
      exact aw_sub [2, 1, 0] rfl (ih h)
set_option maxHeartbeats 4000000 in
set_option maxRecDepth 100000 in
theorem w_X0_digest_282 {K : Kx} {r9 : Int64} {L9 : LH} (hK : Ok K cX0_digest 5 RX0 134 3093) (hZ : fw_isZ K) (hF : Fin K (some (.long)) (some (aL r9)) L9) : ∀ {n : Nat} {j0 : Nat} {y1 : Int64} {x3 : Int32} {L : LH} {mc ms : Nat}, f_X0_digest_282 n j0 y1 x3 L = some (r9, L9, mc, ms) → AW K L mc ms 282 [(0, aR (some j0)), (1, aL y1), (3, aI x3)] [] := by
  intro n
  induction n with
  | zero =>
    intro j0 y1 x3 L mc ms h
    have h : (none : Rs Int64) = some (r9, L9, mc, ms) := h
    cases h
  | succ n ih =>
    intro j0 y1 x3 L mc ms h
    unfold f_X0_digest_282 at h
    refine aw_iload_n hK 2 dX0_digest_282 rfl rfl ?_
    refine aw_iconst (v := (nI 1)) hK dX0_digest_283 rfl ?_
    refine aw_icmp_ge (tgt := 306) hK dX0_digest_284 (by decide) h (fun h => ?_) (fun h => ?_)
    · refine aw_ldc2 (v := 31) hK q1177 dX0_digest_306 ?_
      refine aw_lload_n hK 1 dX0_digest_309 rfl rfl ?_
      refine aw_lmul hK dX0_digest_310 ?_
      refine aw_aload_n hK 0 dX0_digest_311 rfl rfl ?_
      obtain ⟨hj, h⟩ := fw_is_h h
      refine aw_callQ_i hK (fun _ _ _ _ q => rq_VW (n := 0) hK (fw_rcvW hK fw_c0 hj) (fw_czx hZ (ct_X0_neverNow q)) (lw_VW q981 q983 qs30 q94 q984) (by decide +kernel) (by decide) rfl rfl (Nat.le_of_ble_eq_true rfl) dX0_digest_312) (fw_mt (n := 1) rfl) h (fun v2 L1 _ _ h => ?_)
      refine aw_i2l hK dX0_digest_315 ?_
      refine aw_ladd hK dX0_digest_316 ?_
      refine aw_lstore_n (lv' := [(1, aL (((31 : Int64) * y1) + v2.toInt64)), (0, aR (some j0)), (3, aI x3)]) hK dX0_digest_317 rfl (by decide) rfl ?_
      refine aw_iconst (v := (nI 0)) hK dX0_digest_318 rfl ?_
      refine aw_istore_n (lv' := [(3, aI (nI 0)), (1, aL (((31 : Int64) * y1) + v2.toInt64)), (0, aR (some j0))]) hK dX0_digest_319 rfl (by decide) rfl ?_
      exact aw_sub [2, 1, 0] rfl (w_X0_digest_320 hK hZ hF h)
    · refine aw_ldc2 (v := 31) hK q1177 dX0_digest_287 ?_
      refine aw_lload_n hK 1 dX0_digest_290 rfl rfl ?_
      refine aw_lmul hK dX0_digest_291 ?_
      refine aw_aload_n hK 0 dX0_digest_292 rfl rfl ?_
      refine aw_iload_n hK 2 dX0_digest_293 rfl rfl ?_
      obtain ⟨hj, h⟩ := fw_is_h h
      refine aw_callV_i (n := 1) hK fw_c0 hj (fun _ _ _ _ q => fw_czx hZ (ct_X0_spareBy q)) (lw_V q959 q961 qs28 q94 q962) (by decide +kernel) (by decide) rfl rfl (Nat.le_of_ble_eq_true rfl) dX0_digest_294 h (fun v4 L3 _ _ h => ?_)
      refine aw_i2l hK dX0_digest_297 ?_
      refine aw_ladd hK dX0_digest_298 ?_
      refine aw_lstore_n (lv' := [(1, aL (((31 : Int64) * y1) + v4.toInt64)), (0, aR (some j0)), (3, aI x3)]) hK dX0_digest_299 rfl (by decide) rfl ?_
      refine aw_iinc (v := (x3 + (nI 1))) (lv' := [(3, aI (x3 + (nI 1))), (1, aL (((31 : Int64) * y1) + v4.toInt64)), (0, aR (some j0))]) hK 2 dX0_digest_300 rfl rfl (by decide) rfl ?_
      refine aw_goto (tgt := 282) hK dX0_digest_303 (by decide) ?_
      exact aw_sub [2, 1, 0] rfl (ih h)
set_option maxHeartbeats 4000000 in
set_option maxRecDepth 100000 in
theorem w_X0_digest_220 {K : Kx} {r9 : Int64} {L9 : LH} (hK : Ok K cX0_digest 5 RX0 134 3093) (hZ : fw_isZ K) (hF : Fin K (some (.long)) (some (aL r9)) L9) : ∀ {n : Nat} {j0 : Nat} {y1 : Int64} {x3 : Int32} {L : LH} {mc ms : Nat}, f_X0_digest_220 n j0 y1 x3 L = some (r9, L9, mc, ms) → AW K L mc ms 220 [(0, aR (some j0)), (1, aL y1), (3, aI x3)] [] := by
  intro n
  induction n with
  | zero =>
    intro j0 y1 x3 L mc ms h
    have h : (none : Rs Int64) = some (r9, L9, mc, ms) := h
    cases h
  | succ n ih =>
    intro j0 y1 x3 L mc ms h
    unfold f_X0_digest_220 at h
    refine aw_iload_n hK 2 dX0_digest_220 rfl rfl ?_
    refine aw_iconst (v := (nI 2)) hK dX0_digest_221 rfl ?_
    refine aw_icmp_ge (tgt := 244) hK dX0_digest_222 (by decide) h (fun h => ?_) (fun h => ?_)
    · refine aw_ldc2 (v := 31) hK q1177 dX0_digest_244 ?_
      refine aw_lload_n hK 1 dX0_digest_247 rfl rfl ?_
      refine aw_lmul hK dX0_digest_248 ?_
      refine aw_aload_n hK 0 dX0_digest_249 rfl rfl ?_
      obtain ⟨hj, h⟩ := fw_is_h h
      refine aw_callV_i (n := 0) hK fw_c0 hj (fun _ _ _ _ q => fw_czx hZ (ct_X0_spentNow q)) (lw_V q907 q909 qs22 q94 q910) (by decide +kernel) (by decide) rfl rfl (Nat.le_of_ble_eq_true rfl) dX0_digest_250 h (fun v2 L1 _ _ h => ?_)
      refine aw_i2l hK dX0_digest_253 ?_
      refine aw_ladd hK dX0_digest_254 ?_
      refine aw_lstore_n (lv' := [(1, aL (((31 : Int64) * y1) + v2.toInt64)), (0, aR (some j0)), (3, aI x3)]) hK dX0_digest_255 rfl (by decide) rfl ?_
      refine aw_ldc2 (v := 31) hK q1177 dX0_digest_256 ?_
      refine aw_lload_n hK 0 dX0_digest_259 rfl rfl ?_
      refine aw_lmul hK dX0_digest_260 ?_
      refine aw_aload_n hK 1 dX0_digest_261 rfl rfl ?_
      obtain ⟨hj, h⟩ := fw_is_h h
      refine aw_callV_i (n := 0) hK fw_c0 hj (fun _ _ _ _ q => fw_czx hZ (ct_X0_bestNow q)) (lw_V q915 q917 qs23 q94 q918) (by decide +kernel) (by decide) rfl rfl (Nat.le_of_ble_eq_true rfl) dX0_digest_262 h (fun v4 L3 _ _ h => ?_)
      refine aw_i2l hK dX0_digest_265 ?_
      refine aw_ladd hK dX0_digest_266 ?_
      refine aw_lstore_n (lv' := [(1, aL (((31 : Int64) * (((31 : Int64) * y1) + v2.toInt64)) + v4.toInt64)), (0, aR (some j0)), (3, aI x3)]) hK dX0_digest_267 rfl (by decide) rfl ?_
      refine aw_ldc2 (v := 31) hK q1177 dX0_digest_268 ?_
      refine aw_lload_n hK 0 dX0_digest_271 rfl rfl ?_
      refine aw_lmul hK dX0_digest_272 ?_
      refine aw_aload_n hK 1 dX0_digest_273 rfl rfl ?_
      refine aw_gI hK fw_c0 9 (by decide) rfl q235 (fun _ h9 => h9) dX0_digest_274 h (fun v5 h => ?_)
      refine aw_i2l hK dX0_digest_277 ?_
      refine aw_ladd hK dX0_digest_278 ?_
      refine aw_lstore_n (lv' := [(1, aL (((31 : Int64) * (((31 : Int64) * (((31 : Int64) * y1) + v2.toInt64)) + v4.toInt64)) + v5.toInt64)), (0, aR (some j0)), (3, aI x3)]) hK dX0_digest_279 rfl (by decide) rfl ?_
      refine aw_iconst (v := (-nI 1)) hK dX0_digest_280 rfl ?_
      refine aw_istore_n (lv' := [(3, aI (-nI 1)), (1, aL (((31 : Int64) * (((31 : Int64) * (((31 : Int64) * y1) + v2.toInt64)) + v4.toInt64)) + v5.toInt64)), (0, aR (some j0))]) hK dX0_digest_281 rfl (by decide) rfl ?_
      exact aw_sub [2, 1, 0] rfl (w_X0_digest_282 hK hZ hF h)
    · refine aw_ldc2 (v := 31) hK q1177 dX0_digest_225 ?_
      refine aw_lload_n hK 1 dX0_digest_228 rfl rfl ?_
      refine aw_lmul hK dX0_digest_229 ?_
      refine aw_aload_n hK 0 dX0_digest_230 rfl rfl ?_
      refine aw_iload_n hK 2 dX0_digest_231 rfl rfl ?_
      obtain ⟨hj, h⟩ := fw_is_h h
      refine aw_callV_i (n := 1) hK fw_c0 hj (fun _ _ _ _ q => fw_czx hZ (ct_X0_furthestBy q)) (lw_V q894 q896 qs21 q94 q897) (by decide +kernel) (by decide) rfl rfl (Nat.le_of_ble_eq_true rfl) dX0_digest_232 h (fun v7 L6 _ _ h => ?_)
      refine aw_i2l hK dX0_digest_235 ?_
      refine aw_ladd hK dX0_digest_236 ?_
      refine aw_lstore_n (lv' := [(1, aL (((31 : Int64) * y1) + v7.toInt64)), (0, aR (some j0)), (3, aI x3)]) hK dX0_digest_237 rfl (by decide) rfl ?_
      refine aw_iinc (v := (x3 + (nI 1))) (lv' := [(3, aI (x3 + (nI 1))), (1, aL (((31 : Int64) * y1) + v7.toInt64)), (0, aR (some j0))]) hK 2 dX0_digest_238 rfl rfl (by decide) rfl ?_
      refine aw_goto (tgt := 220) hK dX0_digest_241 (by decide) ?_
      exact aw_sub [2, 1, 0] rfl (ih h)
set_option maxHeartbeats 4000000 in
set_option maxRecDepth 100000 in
theorem w_X0_digest_172 {K : Kx} {r9 : Int64} {L9 : LH} (hK : Ok K cX0_digest 5 RX0 134 3093) (hZ : fw_isZ K) (hF : Fin K (some (.long)) (some (aL r9)) L9) : ∀ {n : Nat} {j0 : Nat} {y1 : Int64} {x3 : Int32} {L : LH} {mc ms : Nat}, f_X0_digest_172 n j0 y1 x3 L = some (r9, L9, mc, ms) → AW K L mc ms 172 [(0, aR (some j0)), (1, aL y1), (3, aI x3)] [] := by
  intro n
  induction n with
  | zero =>
    intro j0 y1 x3 L mc ms h
    have h : (none : Rs Int64) = some (r9, L9, mc, ms) := h
    cases h
  | succ n ih =>
    intro j0 y1 x3 L mc ms h
    unfold f_X0_digest_172 at h
    refine aw_iload_n hK 2 dX0_digest_172 rfl rfl ?_
    refine aw_iconst (v := (nI 2)) hK dX0_digest_173 rfl ?_
    refine aw_icmp_ge (tgt := 190) hK dX0_digest_174 (by decide) h (fun h => ?_) (fun h => ?_)
    · refine aw_aload_n hK 0 dX0_digest_190 rfl rfl ?_
      obtain ⟨hj, h⟩ := fw_is_h h
      refine aw_callV_v (n := 0) hK fw_c0 hj (fun _ _ _ _ q => fw_czx hZ (ct_X0_find q)) (lw_V q781 q783 qs9 q94 q784) (by decide +kernel) (by decide) rfl rfl (Nat.le_of_ble_eq_true rfl) dX0_digest_191 h (fun _ L1 _ _ h => ?_)
      refine aw_ldc2 (v := 31) hK q1177 dX0_digest_194 ?_
      refine aw_lload_n hK 1 dX0_digest_197 rfl rfl ?_
      refine aw_lmul hK dX0_digest_198 ?_
      refine aw_aload_n hK 0 dX0_digest_199 rfl rfl ?_
      obtain ⟨hj, h⟩ := fw_is_h h
      refine aw_callV_i (n := 0) hK fw_c0 hj (fun _ _ _ _ q => fw_czx hZ (ct_X0_winner q)) (lw_V q886 q888 qs20 q94 q889) (by decide +kernel) (by decide) rfl rfl (Nat.le_of_ble_eq_true rfl) dX0_digest_200 h (fun v3 L2 _ _ h => ?_)
      refine aw_i2l hK dX0_digest_203 ?_
      refine aw_ladd hK dX0_digest_204 ?_
      refine aw_lstore_n (lv' := [(1, aL (((31 : Int64) * y1) + v3.toInt64)), (0, aR (some j0)), (3, aI x3)]) hK dX0_digest_205 rfl (by decide) rfl ?_
      refine aw_ldc2 (v := 31) hK q1177 dX0_digest_206 ?_
      refine aw_lload_n hK 0 dX0_digest_209 rfl rfl ?_
      refine aw_lmul hK dX0_digest_210 ?_
      refine aw_aload_n hK 1 dX0_digest_211 rfl rfl ?_
      refine aw_gI hK fw_c0 8 (by decide) rfl q234 (fun _ h9 => h9) dX0_digest_212 h (fun v4 h => ?_)
      refine aw_i2l hK dX0_digest_215 ?_
      refine aw_ladd hK dX0_digest_216 ?_
      refine aw_lstore_n (lv' := [(1, aL (((31 : Int64) * (((31 : Int64) * y1) + v3.toInt64)) + v4.toInt64)), (0, aR (some j0)), (3, aI x3)]) hK dX0_digest_217 rfl (by decide) rfl ?_
      refine aw_iconst (v := (nI 0)) hK dX0_digest_218 rfl ?_
      refine aw_istore_n (lv' := [(3, aI (nI 0)), (1, aL (((31 : Int64) * (((31 : Int64) * y1) + v3.toInt64)) + v4.toInt64)), (0, aR (some j0))]) hK dX0_digest_219 rfl (by decide) rfl ?_
      exact aw_sub [2, 1, 0] rfl (w_X0_digest_220 hK hZ hF h)
    · refine aw_aload_n hK 0 dX0_digest_177 rfl rfl ?_
      refine aw_lload_n hK 1 dX0_digest_178 rfl rfl ?_
      refine aw_iload_n hK 2 dX0_digest_179 rfl rfl ?_
      obtain ⟨hj, h⟩ := fw_is_h h
      refine aw_callV_l (n := 2) hK fw_c0 hj (fun _ _ _ _ q => fw_czx hZ (ct_X0_tellsTeam q)) (lw_V q1183 q1185 qs43 q94 q1186) (by decide +kernel) (by decide) rfl rfl (Nat.le_of_ble_eq_true rfl) dX0_digest_180 h (fun v6 L5 _ _ h => ?_)
      refine aw_lstore_n (lv' := [(1, aL v6), (0, aR (some j0)), (3, aI x3)]) hK dX0_digest_183 rfl (by decide) rfl ?_
      refine aw_iinc (v := (x3 + (nI 1))) (lv' := [(3, aI (x3 + (nI 1))), (1, aL v6), (0, aR (some j0))]) hK 2 dX0_digest_184 rfl rfl (by decide) rfl ?_
      refine aw_goto (tgt := 172) hK dX0_digest_187 (by decide) ?_
      exact aw_sub [2, 1, 0] rfl (ih h)
set_option maxHeartbeats 4000000 in
set_option maxRecDepth 100000 in
theorem w_X0_digest_143 {K : Kx} {r9 : Int64} {L9 : LH} (hK : Ok K cX0_digest 5 RX0 134 3093) (hZ : fw_isZ K) (hF : Fin K (some (.long)) (some (aL r9)) L9) : ∀ {n : Nat} {j0 : Nat} {y1 : Int64} {x3 : Int32} {L : LH} {mc ms : Nat}, f_X0_digest_143 n j0 y1 x3 L = some (r9, L9, mc, ms) → AW K L mc ms 143 [(0, aR (some j0)), (1, aL y1), (3, aI x3)] [] := by
  intro n
  induction n with
  | zero =>
    intro j0 y1 x3 L mc ms h
    have h : (none : Rs Int64) = some (r9, L9, mc, ms) := h
    cases h
  | succ n ih =>
    intro j0 y1 x3 L mc ms h
    unfold f_X0_digest_143 at h
    refine aw_iload_n hK 2 dX0_digest_143 rfl rfl ?_
    refine aw_bipush (v := (nI 16)) hK dX0_digest_144 rfl ?_
    refine aw_icmp_ge (tgt := 170) hK dX0_digest_146 (by decide) h (fun h => ?_) (fun h => ?_)
    · refine aw_iconst (v := (nI 0)) hK dX0_digest_170 rfl ?_
      refine aw_istore_n (lv' := [(3, aI (nI 0)), (0, aR (some j0)), (1, aL y1)]) hK dX0_digest_171 rfl (by decide) rfl ?_
      exact aw_sub [1, 2, 0] rfl (w_X0_digest_172 hK hZ hF h)
    · refine aw_aload_n hK 0 dX0_digest_149 rfl rfl ?_
      refine aw_iload_n hK 2 dX0_digest_150 rfl rfl ?_
      obtain ⟨hj, h⟩ := fw_is_h h
      refine aw_callV_i (n := 1) hK fw_c0 hj (fun _ _ _ _ q => fw_czx hZ (ct_X0_isPuller q)) (lw_V q651 q653 qs4 q94 q654) (by decide +kernel) (by decide) rfl rfl (Nat.le_of_ble_eq_true rfl) dX0_digest_151 h (fun v2 L1 _ _ h => ?_)
      refine aw_if_eq (tgt := 164) hK dX0_digest_154 (by decide) h (fun h => ?_) (fun h => ?_)
      · exact w_X0_digest_164 hK hZ hF (fun h => ih h) h
      · refine aw_aload_n hK 0 dX0_digest_157 rfl rfl ?_
        refine aw_lload_n hK 1 dX0_digest_158 rfl rfl ?_
        refine aw_iload_n hK 2 dX0_digest_159 rfl rfl ?_
        obtain ⟨hj, h⟩ := fw_is_h h
        refine aw_callV_l (n := 2) hK fw_c0 hj (fun _ _ _ _ q => fw_czx hZ (ct_X0_tellsPuller q)) (lw_V q1179 q1181 qs42 q94 q1182) (by decide +kernel) (by decide) rfl rfl (Nat.le_of_ble_eq_true rfl) dX0_digest_160 h (fun v4 L3 _ _ h => ?_)
        refine aw_lstore_n (lv' := [(1, aL v4), (0, aR (some j0)), (3, aI x3)]) hK dX0_digest_163 rfl (by decide) rfl ?_
        exact aw_sub [1, 0, 2] rfl (w_X0_digest_164 hK hZ hF (fun h => ih h) h)
set_option maxHeartbeats 4000000 in
set_option maxRecDepth 100000 in
theorem w_X0_digest_67 {K : Kx} {r9 : Int64} {L9 : LH} (hK : Ok K cX0_digest 5 RX0 134 3093) (hZ : fw_isZ K) (hF : Fin K (some (.long)) (some (aL r9)) L9) : ∀ {n : Nat} {j0 : Nat} {y1 : Int64} {x3 : Int32} {L : LH} {mc ms : Nat}, f_X0_digest_67 n j0 y1 x3 L = some (r9, L9, mc, ms) → AW K L mc ms 67 [(0, aR (some j0)), (1, aL y1), (3, aI x3)] [] := by
  intro n
  induction n with
  | zero =>
    intro j0 y1 x3 L mc ms h
    have h : (none : Rs Int64) = some (r9, L9, mc, ms) := h
    cases h
  | succ n ih =>
    intro j0 y1 x3 L mc ms h
    unfold f_X0_digest_67 at h
    refine aw_iload_n hK 2 dX0_digest_67 rfl rfl ?_
    refine aw_bipush (v := (nI 24)) hK dX0_digest_68 rfl ?_
    refine aw_icmp_ge (tgt := 141) hK dX0_digest_70 (by decide) h (fun h => ?_) (fun h => ?_)
    · refine aw_iconst (v := (nI 0)) hK dX0_digest_141 rfl ?_
      refine aw_istore_n (lv' := [(3, aI (nI 0)), (0, aR (some j0)), (1, aL y1)]) hK dX0_digest_142 rfl (by decide) rfl ?_
      exact aw_sub [1, 2, 0] rfl (w_X0_digest_143 hK hZ hF h)
    · refine aw_iconst (v := (nI 0)) hK dX0_digest_73 rfl ?_
      refine aw_istore (lv' := [(4, aI (nI 0)), (0, aR (some j0)), (1, aL y1), (3, aI x3)]) hK dX0_digest_74 (by decide) rfl ?_
      exact aw_sub [1, 2, 3, 0] rfl (w_X0_digest_76 hK hZ hF (fun h => ih h) h)
set_option maxHeartbeats 4000000 in
set_option maxRecDepth 100000 in
theorem w_X0_digest_33 {K : Kx} {r9 : Int64} {L9 : LH} (hK : Ok K cX0_digest 5 RX0 134 3093) (hZ : fw_isZ K) (hF : Fin K (some (.long)) (some (aL r9)) L9) : ∀ {n : Nat} {j0 : Nat} {y1 : Int64} {x3 : Int32} {L : LH} {mc ms : Nat}, f_X0_digest_33 n j0 y1 x3 L = some (r9, L9, mc, ms) → AW K L mc ms 33 [(0, aR (some j0)), (1, aL y1), (3, aI x3)] [] := by
  intro n
  induction n with
  | zero =>
    intro j0 y1 x3 L mc ms h
    have h : (none : Rs Int64) = some (r9, L9, mc, ms) := h
    cases h
  | succ n ih =>
    intro j0 y1 x3 L mc ms h
    unfold f_X0_digest_33 at h
    refine aw_iload_n hK 2 dX0_digest_33 rfl rfl ?_
    refine aw_iconst (v := (nI 4)) hK dX0_digest_34 rfl ?_
    refine aw_icmp_ge (tgt := 61) hK dX0_digest_35 (by decide) h (fun h => ?_) (fun h => ?_)
    · refine aw_aload_n hK 0 dX0_digest_61 rfl rfl ?_
      obtain ⟨hj, h⟩ := fw_is_h h
      refine aw_callV_v (n := 0) hK fw_c0 hj (fun _ _ _ _ q => fw_czx hZ (ct_X0_find q)) (lw_V q781 q783 qs9 q94 q784) (by decide +kernel) (by decide) rfl rfl (Nat.le_of_ble_eq_true rfl) dX0_digest_62 h (fun _ L1 _ _ h => ?_)
      refine aw_iconst (v := (nI 0)) hK dX0_digest_65 rfl ?_
      refine aw_istore_n (lv' := [(3, aI (nI 0)), (0, aR (some j0)), (1, aL y1)]) hK dX0_digest_66 rfl (by decide) rfl ?_
      exact aw_sub [1, 2, 0] rfl (w_X0_digest_67 hK hZ hF h)
    · refine aw_ldc2 (v := 31) hK q1177 dX0_digest_38 ?_
      refine aw_lload_n hK 1 dX0_digest_41 rfl rfl ?_
      refine aw_lmul hK dX0_digest_42 ?_
      refine aw_aload_n hK 0 dX0_digest_43 rfl rfl ?_
      refine aw_gR hK fw_c0 3 (by decide) rfl q229 (fun _ h9 => h9) dX0_digest_44 h (fun r2 h => ?_)
      refine aw_iload_n hK 2 dX0_digest_47 rfl rfl ?_
      obtain _ | j3 := r2
      · exact (fw_nn_no h).elim
      replace h := fw_nn_so h
      refine aw_aald hK 8 (by decide) rfl dX0_digest_48 h (fun r4 h => ?_)
      obtain _ | j7 := r4
      · exact (fw_nn_no h).elim
      replace h := fw_nn_so h
      refine aw_callQ_i hK (fun _ _ _ _ q => fw_td_c q (fun hj q => rq_U (n := 0) hK (fw_rcvW hK fw_c1 hj) (fw_czx hZ (ct_X1_read q)) (lw_U q344 q346 q348 q345 q95 q349) rfl (by decide +kernel) (by decide) rfl rfl (Nat.le_of_ble_eq_true rfl) dX0_digest_49) (fun hj q => rq_U (n := 0) hK (fw_rcvW hK fw_c2 hj) (fw_czx hZ (ct_X1_read q)) (lw_U q344 q346 q347 q345 q95 q349) rfl (by decide +kernel) (by decide) rfl rfl (Nat.le_of_ble_eq_true rfl) dX0_digest_49)) (fw_mt (n := 1) rfl) h (fun v6 L5 _ _ h => ?_)
      refine aw_i2l hK dX0_digest_52 ?_
      refine aw_ladd hK dX0_digest_53 ?_
      refine aw_lstore_n (lv' := [(1, aL (((31 : Int64) * y1) + v6.toInt64)), (0, aR (some j0)), (3, aI x3)]) hK dX0_digest_54 rfl (by decide) rfl ?_
      refine aw_iinc (v := (x3 + (nI 1))) (lv' := [(3, aI (x3 + (nI 1))), (1, aL (((31 : Int64) * y1) + v6.toInt64)), (0, aR (some j0))]) hK 2 dX0_digest_55 rfl rfl (by decide) rfl ?_
      refine aw_goto (tgt := 33) hK dX0_digest_58 (by decide) ?_
      exact aw_sub [2, 1, 0] rfl (ih h)
set_option maxHeartbeats 4000000 in
set_option maxRecDepth 100000 in
theorem w_X0_digest_6 {K : Kx} {r9 : Int64} {L9 : LH} (hK : Ok K cX0_digest 5 RX0 134 3093) (hZ : fw_isZ K) (hF : Fin K (some (.long)) (some (aL r9)) L9) : ∀ {n : Nat} {j0 : Nat} {y1 : Int64} {x3 : Int32} {L : LH} {mc ms : Nat}, f_X0_digest_6 n j0 y1 x3 L = some (r9, L9, mc, ms) → AW K L mc ms 6 [(0, aR (some j0)), (1, aL y1), (3, aI x3)] [] := by
  intro n
  induction n with
  | zero =>
    intro j0 y1 x3 L mc ms h
    have h : (none : Rs Int64) = some (r9, L9, mc, ms) := h
    cases h
  | succ n ih =>
    intro j0 y1 x3 L mc ms h
    unfold f_X0_digest_6 at h
    refine aw_iload_n hK 2 dX0_digest_6 rfl rfl ?_
    refine aw_bipush (v := (nI 8)) hK dX0_digest_7 rfl ?_
    refine aw_icmp_ge (tgt := 31) hK dX0_digest_9 (by decide) h (fun h => ?_) (fun h => ?_)
    · refine aw_iconst (v := (nI 0)) hK dX0_digest_31 rfl ?_
      refine aw_istore_n (lv' := [(3, aI (nI 0)), (0, aR (some j0)), (1, aL y1)]) hK dX0_digest_32 rfl (by decide) rfl ?_
      exact aw_sub [1, 2, 0] rfl (w_X0_digest_33 hK hZ hF h)
    · refine aw_ldc2 (v := 31) hK q1177 dX0_digest_12 ?_
      refine aw_lload_n hK 1 dX0_digest_15 rfl rfl ?_
      refine aw_lmul hK dX0_digest_16 ?_
      refine aw_aload_n hK 0 dX0_digest_17 rfl rfl ?_
      refine aw_iload_n hK 2 dX0_digest_18 rfl rfl ?_
      obtain ⟨hj, h⟩ := fw_is_h h
      refine aw_callV_i (n := 1) hK fw_c0 hj (fun _ _ _ _ q => fw_czx hZ (ct_X0_count q)) (lw_V q1178 q1151 q1152 q94 q1153) (by decide +kernel) (by decide) rfl rfl (Nat.le_of_ble_eq_true rfl) dX0_digest_19 h (fun v2 L1 _ _ h => ?_)
      refine aw_i2l hK dX0_digest_22 ?_
      refine aw_ladd hK dX0_digest_23 ?_
      refine aw_lstore_n (lv' := [(1, aL (((31 : Int64) * y1) + v2.toInt64)), (0, aR (some j0)), (3, aI x3)]) hK dX0_digest_24 rfl (by decide) rfl ?_
      refine aw_iinc (v := (x3 + (nI 1))) (lv' := [(3, aI (x3 + (nI 1))), (1, aL (((31 : Int64) * y1) + v2.toInt64)), (0, aR (some j0))]) hK 2 dX0_digest_25 rfl rfl (by decide) rfl ?_
      refine aw_goto (tgt := 6) hK dX0_digest_28 (by decide) ?_
      exact aw_sub [2, 1, 0] rfl (ih h)
set_option maxHeartbeats 4000000 in
set_option maxRecDepth 100000 in
theorem w_X0_digest_0 {K : Kx} {r9 : Int64} {L9 : LH} (hK : Ok K cX0_digest 5 RX0 134 3093) (hZ : fw_isZ K) (hF : Fin K (some (.long)) (some (aL r9)) L9) {j0 : Nat} {L : LH} {mc ms : Nat} (h : f_X0_digest j0 L = some (r9, L9, mc, ms)) : AW K L mc ms 0 [(0, aR (some j0))] [] := by
  unfold f_X0_digest at h
  refine aw_ldc2 (v := 17) hK q1176 dX0_digest_0 ?_
  refine aw_lstore_n (lv' := [(1, aL (17 : Int64)), (0, aR (some j0))]) hK dX0_digest_3 rfl (by decide) rfl ?_
  refine aw_iconst (v := (nI 0)) hK dX0_digest_4 rfl ?_
  refine aw_istore_n (lv' := [(3, aI (nI 0)), (1, aL (17 : Int64)), (0, aR (some j0))]) hK dX0_digest_5 rfl (by decide) rfl ?_
  exact aw_sub [2, 1, 0] rfl (w_X0_digest_6 hK hZ hF h)
theorem ct_X0_digest {j0 : Nat} {L : LH} {r9 : Int64} {L9 : LH} {mc ms : Nat} (h : f_X0_digest j0 L = some (r9, L9, mc, ms)) : fw_Cx yX0_digest (ws_ yX0_digest cX0_digest 5 (some (.long))) 134 3093 [aR (some j0)] L (some (aL r9)) L9 mc ms :=
  fun b1 b2 => ct_of (own := RX0) fw_ZX_ok (by decide +kernel) rfl (Nat.le_of_ble_eq_true rfl) (fun K hZ hK hF hini => w_X0_digest_0 hK ⟨b1, b2, hZ⟩ hF h)
