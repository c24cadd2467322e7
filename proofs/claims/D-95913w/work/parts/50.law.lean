set_option maxRecDepth 100000
/-! The law's cases, its loop. RR: the two objects stand alike. -/
def lw_ok {α : Type} (RR RQ : LH → LH → Prop) (fx fm : LH → Rs α) : Prop := ∀ Lx Lm, RR Lx Lm → ∃ v L1 L2 c s cm sm, fx Lx = some (v, L1, c, s) ∧ fm Lm = some (v, L2, cm, sm) ∧ RQ L1 L2 ∧ c + cm ≤ 4000 ∧ s + sm ≤ 40000
def lw_R0 (RR : LH → LH → Prop) : Prop := ∀ Lx Lm, RR Lx Lm → (lh_k Lx 0 = 1 ∧ 0 < lh_z Lx) ∧ lh_k Lm 0 = 8 ∧ 0 < lh_z Lm
abbrev lvL (b : Nat) (i : Int32) : Value → Value → List (Nat × Value) := fun x m => [(0, .ref b), (1, x), (2, m), (3, .int i)]
def lw_sc (N : Nat) (i : Int32) : Prop := ∀ n : Nat, n < 6 → ¬ (i + nI n < 0 ∨ N ≤ (i + nI n).toNatClampNeg)
theorem lw_okz {is : List AV} (h : is.all (fun v => match v with
  | .inl _ => true
  | .inr (.inl _) => true
  | .inr (.inr r) => r.isNone) = true) : ∀ v ∈ is, ∀ z, okv z v := by
  intro v hv z
  have := List.all_eq_true.mp h v hv
  rcases v with v | v | v
  · trivial
  · trivial
  · cases v with
    | none => trivial
    | some j => cases this
section Law
variable {K : Kx} {F Lo : Nat} {Lx Lm : LH} {c0 s0 pc b N : Nat} {xs : Nat → Int32} {lv : Value → Value → List (Nat × Value)} {st : Value → Value → List Value} {cc : ByteArray} {own : String} {RR RQ : LH → LH → Prop}
theorem lw_sameL (hK : Ok K cc 4 own F Lo) {v : Int64} {off : Int} {tgt : Nat} (hd1 : decode cc pc = .ok (.lcmp, 1)) (hd2 : decode cc (pc + 1) = .ok (.ifCond .eq off, 3)) (ht : ((pc + 1 : Nat) : Int) + off = (tgt : Int)) (kk : LW K Lx Lm c0 s0 tgt lv (fun _ _ => [])) : LW K Lx Lm c0 s0 pc lv (fun _ _ => [.long v, .long v]) := fun adx adm H ls h hl => by
  refine W.lcmp hK.x hK.b hd1 ?_
  exact lv_if_eq hK.x hK.b hd2 ht (fun _ => kk adx adm H ls h hl) (fun q => (q ((lg_cmp_eq v v).mpr rfl)).elim)
set_option maxHeartbeats 2000000 in
theorem lc_0 (hK : Ok K cL_law 4 "TugOfWarLaw" F Lo) (hZ : fw_isZ K) (hB : lw_B K b N xs) (h0 : lw_R0 RR) (hok : ∀ a1 a2 : Int32, lw_ok RR RQ (f_X0_type 0 a1 a2) (f_X5_type 0 a1 a2)) (hFL : 400 ≤ F ∧ 60000 ≤ Lo) (hR : RR Lx Lm) {i : Int32} (hin : lw_sc N i) (hroom : c0 + 4000 ≤ 603072 ∧ s0 + 40000 ≤ 7262314) (kk : ∀ L1 L2 c1 s1, RQ L1 L2 → c1 ≤ c0 + 4000 → s1 ≤ s0 + 40000 → LW K L1 L2 c1 s1 1269 (lvL b i) (fun _ _ => [])) : LW K Lx Lm c0 s0 196 (lvL b i) (fun _ _ => []) := by
  obtain ⟨v, L1, L2, c, s, cm, sm, hx, hm, hR1, hc, hs⟩ := hok (xs (i + nI 1).toNatClampNeg) (xs (i + nI 2).toNatClampNeg) Lx Lm hR
  obtain ⟨⟨hkx, hzx⟩, hkm, hzm⟩ := h0 Lx Lm hR
  refine lw_ax hK 1 (fun _ _ => rfl) dL_law_196 ?_
  refine lw_cell (n := 1) (v := nI 1) hK hB 3 (fun _ _ => rfl) (fun _ _ => rfl) rfl (hin 1 (by decide)) rfl dL_law_197 dL_law_198 dL_law_199 dL_law_200 dL_law_201 ?_
  refine lw_cell (n := 2) (v := nI 2) hK hB 3 (fun _ _ => rfl) (fun _ _ => rfl) rfl (hin 2 (by decide)) rfl dL_law_202 dL_law_203 dL_law_204 dL_law_205 dL_law_206 ?_
  refine lw_callx hK hB (st1 := [aI (xs (i + nI 2).toNatClampNeg), aI (xs (i + nI 1).toNatClampNeg)]) (st2 := []) (r := some (aI v)) (v1 := [.int (xs (i + nI 2).toNatClampNeg), .int (xs (i + nI 1).toNatClampNeg)]) (v2 := []) (v3 := [.int v]) (c1 := c) (s1 := s) (rq_V (n := 2) (As := [aI (xs (i + nI 1).toNatClampNeg), aI (xs (i + nI 2).toNatClampNeg)]) hK (fw_rcvW hK fw_c0 hkx) (fw_czx hZ (ct_X0_type hx)) (lw_V q302 q303 q304 q94 q305) (by decide +kernel) ⟨by omega, by omega⟩ rfl rfl (Nat.le_of_ble_eq_true rfl) dL_law_207) hzx (lw_okz rfl) (fun _ => rfl) (fun _ => rfl) (fun _ => rfl) ⟨by omega, by omega⟩ ?_
  refine lw_am hK 2 (fun _ _ => rfl) dL_law_210 ?_
  refine lw_cell (n := 1) (v := nI 1) hK hB 3 (fun _ _ => rfl) (fun _ _ => rfl) rfl (hin 1 (by decide)) rfl dL_law_211 dL_law_212 dL_law_213 dL_law_214 dL_law_215 ?_
  refine lw_cell (n := 2) (v := nI 2) hK hB 3 (fun _ _ => rfl) (fun _ _ => rfl) rfl (hin 2 (by decide)) rfl dL_law_216 dL_law_217 dL_law_218 dL_law_219 dL_law_220 ?_
  refine lw_callm hK hB (st1 := [aI (xs (i + nI 2).toNatClampNeg), aI (xs (i + nI 1).toNatClampNeg)]) (st2 := [aI v]) (r := some (aI v)) (v1 := [.int (xs (i + nI 2).toNatClampNeg), .int (xs (i + nI 1).toNatClampNeg)]) (v2 := [.int v]) (v3 := [.int v]) (c1 := cm) (s1 := sm) (rq_V (n := 2) (As := [aI (xs (i + nI 1).toNatClampNeg), aI (xs (i + nI 2).toNatClampNeg)]) hK (fw_rcvW hK fw_c7 hkm) (ct_X5_type hK.zk hm) (lw_V q1336 q1337 q1338 q102 q1339) (by decide +kernel) ⟨by omega, by omega⟩ rfl rfl (Nat.le_of_ble_eq_true rfl) dL_law_221) hzm (lw_okz rfl) (fun _ => rfl) (fun _ => rfl) (fun _ => rfl) ⟨by omega, by omega⟩ ?_
  refine lw_same (tgt := 1269) hK dL_law_224 (by decide) ?_
  exact kk L1 L2 _ _ hR1 (by omega) (by omega)
set_option maxHeartbeats 2000000 in
theorem lc_1 (hK : Ok K cL_law 4 "TugOfWarLaw" F Lo) (hZ : fw_isZ K) (hB : lw_B K b N xs) (h0 : lw_R0 RR) (hok : ∀ a1 : Int32, lw_ok RR RQ (f_X0_wipe 0 a1) (f_X5_wipe 0 a1)) (hFL : 400 ≤ F ∧ 60000 ≤ Lo) (hR : RR Lx Lm) {i : Int32} (hin : lw_sc N i) (hroom : c0 + 4000 ≤ 603072 ∧ s0 + 40000 ≤ 7262314) (kk : ∀ L1 L2 c1 s1, RQ L1 L2 → c1 ≤ c0 + 4000 → s1 ≤ s0 + 40000 → LW K L1 L2 c1 s1 1269 (lvL b i) (fun _ _ => [])) : LW K Lx Lm c0 s0 229 (lvL b i) (fun _ _ => []) := by
  obtain ⟨v, L1, L2, c, s, cm, sm, hx, hm, hR1, hc, hs⟩ := hok (xs (i + nI 1).toNatClampNeg) Lx Lm hR
  obtain ⟨⟨hkx, hzx⟩, hkm, hzm⟩ := h0 Lx Lm hR
  refine lw_ax hK 1 (fun _ _ => rfl) dL_law_229 ?_
  refine lw_cell (n := 1) (v := nI 1) hK hB 3 (fun _ _ => rfl) (fun _ _ => rfl) rfl (hin 1 (by decide)) rfl dL_law_230 dL_law_231 dL_law_232 dL_law_233 dL_law_234 ?_
  refine lw_callx hK hB (st1 := [aI (xs (i + nI 1).toNatClampNeg)]) (st2 := []) (r := some (aI v)) (v1 := [.int (xs (i + nI 1).toNatClampNeg)]) (v2 := []) (v3 := [.int v]) (c1 := c) (s1 := s) (rq_V (n := 1) (As := [aI (xs (i + nI 1).toNatClampNeg)]) hK (fw_rcvW hK fw_c0 hkx) (fw_czx hZ (ct_X0_wipe hx)) (lw_V q320 q321 q322 q94 q323) (by decide +kernel) ⟨by omega, by omega⟩ rfl rfl (Nat.le_of_ble_eq_true rfl) dL_law_235) hzx (lw_okz rfl) (fun _ => rfl) (fun _ => rfl) (fun _ => rfl) ⟨by omega, by omega⟩ ?_
  refine lw_am hK 2 (fun _ _ => rfl) dL_law_238 ?_
  refine lw_cell (n := 1) (v := nI 1) hK hB 3 (fun _ _ => rfl) (fun _ _ => rfl) rfl (hin 1 (by decide)) rfl dL_law_239 dL_law_240 dL_law_241 dL_law_242 dL_law_243 ?_
  refine lw_callm hK hB (st1 := [aI (xs (i + nI 1).toNatClampNeg)]) (st2 := [aI v]) (r := some (aI v)) (v1 := [.int (xs (i + nI 1).toNatClampNeg)]) (v2 := [.int v]) (v3 := [.int v]) (c1 := cm) (s1 := sm) (rq_V (n := 1) (As := [aI (xs (i + nI 1).toNatClampNeg)]) hK (fw_rcvW hK fw_c7 hkm) (ct_X5_wipe hK.zk hm) (lw_V q1346 q1347 q1348 q102 q1349) (by decide +kernel) ⟨by omega, by omega⟩ rfl rfl (Nat.le_of_ble_eq_true rfl) dL_law_244) hzm (lw_okz rfl) (fun _ => rfl) (fun _ => rfl) (fun _ => rfl) ⟨by omega, by omega⟩ ?_
  refine lw_same (tgt := 1269) hK dL_law_247 (by decide) ?_
  exact kk L1 L2 _ _ hR1 (by omega) (by omega)
set_option maxHeartbeats 2000000 in
theorem lc_2 (hK : Ok K cL_law 4 "TugOfWarLaw" F Lo) (hZ : fw_isZ K) (hB : lw_B K b N xs) (h0 : lw_R0 RR) (hok : ∀ a1 : Int32, lw_ok RR RQ (f_X0_undo 0 a1) (f_X5_undo 0 a1)) (hFL : 400 ≤ F ∧ 60000 ≤ Lo) (hR : RR Lx Lm) {i : Int32} (hin : lw_sc N i) (hroom : c0 + 4000 ≤ 603072 ∧ s0 + 40000 ≤ 7262314) (kk : ∀ L1 L2 c1 s1, RQ L1 L2 → c1 ≤ c0 + 4000 → s1 ≤ s0 + 40000 → LW K L1 L2 c1 s1 1269 (lvL b i) (fun _ _ => [])) : LW K Lx Lm c0 s0 252 (lvL b i) (fun _ _ => []) := by
  obtain ⟨v, L1, L2, c, s, cm, sm, hx, hm, hR1, hc, hs⟩ := hok (xs (i + nI 1).toNatClampNeg) Lx Lm hR
  obtain ⟨⟨hkx, hzx⟩, hkm, hzm⟩ := h0 Lx Lm hR
  refine lw_ax hK 1 (fun _ _ => rfl) dL_law_252 ?_
  refine lw_cell (n := 1) (v := nI 1) hK hB 3 (fun _ _ => rfl) (fun _ _ => rfl) rfl (hin 1 (by decide)) rfl dL_law_253 dL_law_254 dL_law_255 dL_law_256 dL_law_257 ?_
  refine lw_callx hK hB (st1 := [aI (xs (i + nI 1).toNatClampNeg)]) (st2 := []) (r := some (aI v)) (v1 := [.int (xs (i + nI 1).toNatClampNeg)]) (v2 := []) (v3 := [.int v]) (c1 := c) (s1 := s) (rq_V (n := 1) (As := [aI (xs (i + nI 1).toNatClampNeg)]) hK (fw_rcvW hK fw_c0 hkx) (fw_czx hZ (ct_X0_undo hx)) (lw_V q330 q331 q332 q94 q333) (by decide +kernel) ⟨by omega, by omega⟩ rfl rfl (Nat.le_of_ble_eq_true rfl) dL_law_258) hzx (lw_okz rfl) (fun _ => rfl) (fun _ => rfl) (fun _ => rfl) ⟨by omega, by omega⟩ ?_
  refine lw_am hK 2 (fun _ _ => rfl) dL_law_261 ?_
  refine lw_cell (n := 1) (v := nI 1) hK hB 3 (fun _ _ => rfl) (fun _ _ => rfl) rfl (hin 1 (by decide)) rfl dL_law_262 dL_law_263 dL_law_264 dL_law_265 dL_law_266 ?_
  refine lw_callm hK hB (st1 := [aI (xs (i + nI 1).toNatClampNeg)]) (st2 := [aI v]) (r := some (aI v)) (v1 := [.int (xs (i + nI 1).toNatClampNeg)]) (v2 := [.int v]) (v3 := [.int v]) (c1 := cm) (s1 := sm) (rq_V (n := 1) (As := [aI (xs (i + nI 1).toNatClampNeg)]) hK (fw_rcvW hK fw_c7 hkm) (ct_X5_undo hK.zk hm) (lw_V q1350 q1351 q1352 q102 q1353) (by decide +kernel) ⟨by omega, by omega⟩ rfl rfl (Nat.le_of_ble_eq_true rfl) dL_law_267) hzm (lw_okz rfl) (fun _ => rfl) (fun _ => rfl) (fun _ => rfl) ⟨by omega, by omega⟩ ?_
  refine lw_same (tgt := 1269) hK dL_law_270 (by decide) ?_
  exact kk L1 L2 _ _ hR1 (by omega) (by omega)
set_option maxHeartbeats 2000000 in
theorem lc_3 (hK : Ok K cL_law 4 "TugOfWarLaw" F Lo) (hZ : fw_isZ K) (hB : lw_B K b N xs) (h0 : lw_R0 RR) (hok : ∀ a1 : Int32, lw_ok RR RQ (f_X0_fault 0 a1) (f_X5_fault 0 a1)) (hFL : 400 ≤ F ∧ 60000 ≤ Lo) (hR : RR Lx Lm) {i : Int32} (hin : lw_sc N i) (hroom : c0 + 4000 ≤ 603072 ∧ s0 + 40000 ≤ 7262314) (kk : ∀ L1 L2 c1 s1, RQ L1 L2 → c1 ≤ c0 + 4000 → s1 ≤ s0 + 40000 → LW K L1 L2 c1 s1 1269 (lvL b i) (fun _ _ => [])) : LW K Lx Lm c0 s0 275 (lvL b i) (fun _ _ => []) := by
  obtain ⟨v, L1, L2, c, s, cm, sm, hx, hm, hR1, hc, hs⟩ := hok (xs (i + nI 1).toNatClampNeg) Lx Lm hR
  obtain ⟨⟨hkx, hzx⟩, hkm, hzm⟩ := h0 Lx Lm hR
  refine lw_ax hK 1 (fun _ _ => rfl) dL_law_275 ?_
  refine lw_cell (n := 1) (v := nI 1) hK hB 3 (fun _ _ => rfl) (fun _ _ => rfl) rfl (hin 1 (by decide)) rfl dL_law_276 dL_law_277 dL_law_278 dL_law_279 dL_law_280 ?_
  refine lw_callx hK hB (st1 := [aI (xs (i + nI 1).toNatClampNeg)]) (st2 := []) (r := some (aI v)) (v1 := [.int (xs (i + nI 1).toNatClampNeg)]) (v2 := []) (v3 := [.int v]) (c1 := c) (s1 := s) (rq_V (n := 1) (As := [aI (xs (i + nI 1).toNatClampNeg)]) hK (fw_rcvW hK fw_c0 hkx) (fw_czx hZ (ct_X0_fault hx)) (lw_V q340 q341 q342 q94 q343) (by decide +kernel) ⟨by omega, by omega⟩ rfl rfl (Nat.le_of_ble_eq_true rfl) dL_law_281) hzx (lw_okz rfl) (fun _ => rfl) (fun _ => rfl) (fun _ => rfl) ⟨by omega, by omega⟩ ?_
  refine lw_am hK 2 (fun _ _ => rfl) dL_law_284 ?_
  refine lw_cell (n := 1) (v := nI 1) hK hB 3 (fun _ _ => rfl) (fun _ _ => rfl) rfl (hin 1 (by decide)) rfl dL_law_285 dL_law_286 dL_law_287 dL_law_288 dL_law_289 ?_
  refine lw_callm hK hB (st1 := [aI (xs (i + nI 1).toNatClampNeg)]) (st2 := [aI v]) (r := some (aI v)) (v1 := [.int (xs (i + nI 1).toNatClampNeg)]) (v2 := [.int v]) (v3 := [.int v]) (c1 := cm) (s1 := sm) (rq_V (n := 1) (As := [aI (xs (i + nI 1).toNatClampNeg)]) hK (fw_rcvW hK fw_c7 hkm) (ct_X5_fault hK.zk hm) (lw_V q1354 q1355 q1356 q102 q1357) (by decide +kernel) ⟨by omega, by omega⟩ rfl rfl (Nat.le_of_ble_eq_true rfl) dL_law_290) hzm (lw_okz rfl) (fun _ => rfl) (fun _ => rfl) (fun _ => rfl) ⟨by omega, by omega⟩ ?_
  refine lw_same (tgt := 1269) hK dL_law_293 (by decide) ?_
  exact kk L1 L2 _ _ hR1 (by omega) (by omega)
set_option maxHeartbeats 2000000 in
theorem lc_4 (hK : Ok K cL_law 4 "TugOfWarLaw" F Lo) (hZ : fw_isZ K) (hB : lw_B K b N xs) (h0 : lw_R0 RR) (hok : ∀ a1 a2 : Int32, lw_ok RR RQ (f_X0_puller 0 a1 a2) (f_X5_puller 0 a1 a2)) (hFL : 400 ≤ F ∧ 60000 ≤ Lo) (hR : RR Lx Lm) {i : Int32} (hin : lw_sc N i) (hroom : c0 + 4000 ≤ 603072 ∧ s0 + 40000 ≤ 7262314) (kk : ∀ L1 L2 c1 s1, RQ L1 L2 → c1 ≤ c0 + 4000 → s1 ≤ s0 + 40000 → LW K L1 L2 c1 s1 1269 (lvL b i) (fun _ _ => [])) : LW K Lx Lm c0 s0 298 (lvL b i) (fun _ _ => []) := by
  obtain ⟨v, L1, L2, c, s, cm, sm, hx, hm, hR1, hc, hs⟩ := hok (xs (i + nI 1).toNatClampNeg) (xs (i + nI 2).toNatClampNeg) Lx Lm hR
  obtain ⟨⟨hkx, hzx⟩, hkm, hzm⟩ := h0 Lx Lm hR
  refine lw_ax hK 1 (fun _ _ => rfl) dL_law_298 ?_
  refine lw_cell (n := 1) (v := nI 1) hK hB 3 (fun _ _ => rfl) (fun _ _ => rfl) rfl (hin 1 (by decide)) rfl dL_law_299 dL_law_300 dL_law_301 dL_law_302 dL_law_303 ?_
  refine lw_cell (n := 2) (v := nI 2) hK hB 3 (fun _ _ => rfl) (fun _ _ => rfl) rfl (hin 2 (by decide)) rfl dL_law_304 dL_law_305 dL_law_306 dL_law_307 dL_law_308 ?_
  refine lw_callx hK hB (st1 := [aI (xs (i + nI 2).toNatClampNeg), aI (xs (i + nI 1).toNatClampNeg)]) (st2 := []) (r := some (aI v)) (v1 := [.int (xs (i + nI 2).toNatClampNeg), .int (xs (i + nI 1).toNatClampNeg)]) (v2 := []) (v3 := [.int v]) (c1 := c) (s1 := s) (rq_V (n := 2) (As := [aI (xs (i + nI 1).toNatClampNeg), aI (xs (i + nI 2).toNatClampNeg)]) hK (fw_rcvW hK fw_c0 hkx) (fw_czx hZ (ct_X0_puller hx)) (lw_V q647 q648 q649 q94 q650) (by decide +kernel) ⟨by omega, by omega⟩ rfl rfl (Nat.le_of_ble_eq_true rfl) dL_law_309) hzx (lw_okz rfl) (fun _ => rfl) (fun _ => rfl) (fun _ => rfl) ⟨by omega, by omega⟩ ?_
  refine lw_am hK 2 (fun _ _ => rfl) dL_law_312 ?_
  refine lw_cell (n := 1) (v := nI 1) hK hB 3 (fun _ _ => rfl) (fun _ _ => rfl) rfl (hin 1 (by decide)) rfl dL_law_313 dL_law_314 dL_law_315 dL_law_316 dL_law_317 ?_
  refine lw_cell (n := 2) (v := nI 2) hK hB 3 (fun _ _ => rfl) (fun _ _ => rfl) rfl (hin 2 (by decide)) rfl dL_law_318 dL_law_319 dL_law_320 dL_law_321 dL_law_322 ?_
  refine lw_callm hK hB (st1 := [aI (xs (i + nI 2).toNatClampNeg), aI (xs (i + nI 1).toNatClampNeg)]) (st2 := [aI v]) (r := some (aI v)) (v1 := [.int (xs (i + nI 2).toNatClampNeg), .int (xs (i + nI 1).toNatClampNeg)]) (v2 := [.int v]) (v3 := [.int v]) (c1 := cm) (s1 := sm) (rq_V (n := 2) (As := [aI (xs (i + nI 1).toNatClampNeg), aI (xs (i + nI 2).toNatClampNeg)]) hK (fw_rcvW hK fw_c7 hkm) (ct_X5_puller hK.zk hm) (lw_V q1381 q1382 q1383 q102 q1384) (by decide +kernel) ⟨by omega, by omega⟩ rfl rfl (Nat.le_of_ble_eq_true rfl) dL_law_323) hzm (lw_okz rfl) (fun _ => rfl) (fun _ => rfl) (fun _ => rfl) ⟨by omega, by omega⟩ ?_
  refine lw_same (tgt := 1269) hK dL_law_326 (by decide) ?_
  exact kk L1 L2 _ _ hR1 (by omega) (by omega)
set_option maxHeartbeats 2000000 in
theorem lc_5 (hK : Ok K cL_law 4 "TugOfWarLaw" F Lo) (hZ : fw_isZ K) (hB : lw_B K b N xs) (h0 : lw_R0 RR) (hok : ∀ a1 a2 : Int32, lw_ok RR RQ (f_X0_call 0 a1 a2) (f_X5_call 0 a1 a2)) (hFL : 400 ≤ F ∧ 60000 ≤ Lo) (hR : RR Lx Lm) {i : Int32} (hin : lw_sc N i) (hroom : c0 + 4000 ≤ 603072 ∧ s0 + 40000 ≤ 7262314) (kk : ∀ L1 L2 c1 s1, RQ L1 L2 → c1 ≤ c0 + 4000 → s1 ≤ s0 + 40000 → LW K L1 L2 c1 s1 1269 (lvL b i) (fun _ _ => [])) : LW K Lx Lm c0 s0 331 (lvL b i) (fun _ _ => []) := by
  obtain ⟨v, L1, L2, c, s, cm, sm, hx, hm, hR1, hc, hs⟩ := hok (xs (i + nI 1).toNatClampNeg) (xs (i + nI 2).toNatClampNeg) Lx Lm hR
  obtain ⟨⟨hkx, hzx⟩, hkm, hzm⟩ := h0 Lx Lm hR
  refine lw_ax hK 1 (fun _ _ => rfl) dL_law_331 ?_
  refine lw_cell (n := 1) (v := nI 1) hK hB 3 (fun _ _ => rfl) (fun _ _ => rfl) rfl (hin 1 (by decide)) rfl dL_law_332 dL_law_333 dL_law_334 dL_law_335 dL_law_336 ?_
  refine lw_cell (n := 2) (v := nI 2) hK hB 3 (fun _ _ => rfl) (fun _ _ => rfl) rfl (hin 2 (by decide)) rfl dL_law_337 dL_law_338 dL_law_339 dL_law_340 dL_law_341 ?_
  refine lw_callx hK hB (st1 := [aI (xs (i + nI 2).toNatClampNeg), aI (xs (i + nI 1).toNatClampNeg)]) (st2 := []) (r := some (aI v)) (v1 := [.int (xs (i + nI 2).toNatClampNeg), .int (xs (i + nI 1).toNatClampNeg)]) (v2 := []) (v3 := [.int v]) (c1 := c) (s1 := s) (rq_V (n := 2) (As := [aI (xs (i + nI 1).toNatClampNeg), aI (xs (i + nI 2).toNatClampNeg)]) hK (fw_rcvW hK fw_c0 hkx) (fw_czx hZ (ct_X0_call hx)) (lw_V q703 q704 q705 q94 q706) (by decide +kernel) ⟨by omega, by omega⟩ rfl rfl (Nat.le_of_ble_eq_true rfl) dL_law_342) hzx (lw_okz rfl) (fun _ => rfl) (fun _ => rfl) (fun _ => rfl) ⟨by omega, by omega⟩ ?_
  refine lw_am hK 2 (fun _ _ => rfl) dL_law_345 ?_
  refine lw_cell (n := 1) (v := nI 1) hK hB 3 (fun _ _ => rfl) (fun _ _ => rfl) rfl (hin 1 (by decide)) rfl dL_law_346 dL_law_347 dL_law_348 dL_law_349 dL_law_350 ?_
  refine lw_cell (n := 2) (v := nI 2) hK hB 3 (fun _ _ => rfl) (fun _ _ => rfl) rfl (hin 2 (by decide)) rfl dL_law_351 dL_law_352 dL_law_353 dL_law_354 dL_law_355 ?_
  refine lw_callm hK hB (st1 := [aI (xs (i + nI 2).toNatClampNeg), aI (xs (i + nI 1).toNatClampNeg)]) (st2 := [aI v]) (r := some (aI v)) (v1 := [.int (xs (i + nI 2).toNatClampNeg), .int (xs (i + nI 1).toNatClampNeg)]) (v2 := [.int v]) (v3 := [.int v]) (c1 := cm) (s1 := sm) (rq_V (n := 2) (As := [aI (xs (i + nI 1).toNatClampNeg), aI (xs (i + nI 2).toNatClampNeg)]) hK (fw_rcvW hK fw_c7 hkm) (ct_X5_call hK.zk hm) (lw_V q1404 q1405 q1406 q102 q1407) (by decide +kernel) ⟨by omega, by omega⟩ rfl rfl (Nat.le_of_ble_eq_true rfl) dL_law_356) hzm (lw_okz rfl) (fun _ => rfl) (fun _ => rfl) (fun _ => rfl) ⟨by omega, by omega⟩ ?_
  refine lw_same (tgt := 1269) hK dL_law_359 (by decide) ?_
  exact kk L1 L2 _ _ hR1 (by omega) (by omega)
set_option maxHeartbeats 2000000 in
theorem lc_6 (hK : Ok K cL_law 4 "TugOfWarLaw" F Lo) (hZ : fw_isZ K) (hB : lw_B K b N xs) (h0 : lw_R0 RR) (hok : ∀ a1 : Int32, lw_ok RR RQ (f_X0_mud 0 a1) (f_X5_mud 0 a1)) (hFL : 400 ≤ F ∧ 60000 ≤ Lo) (hR : RR Lx Lm) {i : Int32} (hin : lw_sc N i) (hroom : c0 + 4000 ≤ 603072 ∧ s0 + 40000 ≤ 7262314) (kk : ∀ L1 L2 c1 s1, RQ L1 L2 → c1 ≤ c0 + 4000 → s1 ≤ s0 + 40000 → LW K L1 L2 c1 s1 1269 (lvL b i) (fun _ _ => [])) : LW K Lx Lm c0 s0 364 (lvL b i) (fun _ _ => []) := by
  obtain ⟨v, L1, L2, c, s, cm, sm, hx, hm, hR1, hc, hs⟩ := hok (xs (i + nI 1).toNatClampNeg) Lx Lm hR
  obtain ⟨⟨hkx, hzx⟩, hkm, hzm⟩ := h0 Lx Lm hR
  refine lw_ax hK 1 (fun _ _ => rfl) dL_law_364 ?_
  refine lw_cell (n := 1) (v := nI 1) hK hB 3 (fun _ _ => rfl) (fun _ _ => rfl) rfl (hin 1 (by decide)) rfl dL_law_365 dL_law_366 dL_law_367 dL_law_368 dL_law_369 ?_
  refine lw_callx hK hB (st1 := [aI (xs (i + nI 1).toNatClampNeg)]) (st2 := []) (r := some (aI v)) (v1 := [.int (xs (i + nI 1).toNatClampNeg)]) (v2 := []) (v3 := [.int v]) (c1 := c) (s1 := s) (rq_V (n := 1) (As := [aI (xs (i + nI 1).toNatClampNeg)]) hK (fw_rcvW hK fw_c0 hkx) (fw_czx hZ (ct_X0_mud hx)) (lw_V q721 q722 q723 q94 q724) (by decide +kernel) ⟨by omega, by omega⟩ rfl rfl (Nat.le_of_ble_eq_true rfl) dL_law_370) hzx (lw_okz rfl) (fun _ => rfl) (fun _ => rfl) (fun _ => rfl) ⟨by omega, by omega⟩ ?_
  refine lw_am hK 2 (fun _ _ => rfl) dL_law_373 ?_
  refine lw_cell (n := 1) (v := nI 1) hK hB 3 (fun _ _ => rfl) (fun _ _ => rfl) rfl (hin 1 (by decide)) rfl dL_law_374 dL_law_375 dL_law_376 dL_law_377 dL_law_378 ?_
  refine lw_callm hK hB (st1 := [aI (xs (i + nI 1).toNatClampNeg)]) (st2 := [aI v]) (r := some (aI v)) (v1 := [.int (xs (i + nI 1).toNatClampNeg)]) (v2 := [.int v]) (v3 := [.int v]) (c1 := cm) (s1 := sm) (rq_V (n := 1) (As := [aI (xs (i + nI 1).toNatClampNeg)]) hK (fw_rcvW hK fw_c7 hkm) (ct_X5_mud hK.zk hm) (lw_V q1418 q1419 q1420 q102 q1421) (by decide +kernel) ⟨by omega, by omega⟩ rfl rfl (Nat.le_of_ble_eq_true rfl) dL_law_379) hzm (lw_okz rfl) (fun _ => rfl) (fun _ => rfl) (fun _ => rfl) ⟨by omega, by omega⟩ ?_
  refine lw_same (tgt := 1269) hK dL_law_382 (by decide) ?_
  exact kk L1 L2 _ _ hR1 (by omega) (by omega)
set_option maxHeartbeats 2000000 in
theorem lc_7 (hK : Ok K cL_law 4 "TugOfWarLaw" F Lo) (hZ : fw_isZ K) (hB : lw_B K b N xs) (h0 : lw_R0 RR) (hok : ∀ a1 a2 a3 : Int32, lw_ok RR RQ (f_X0_event 0 a1 a2 a3) (f_X5_event 0 a1 a2 a3)) (hFL : 400 ≤ F ∧ 60000 ≤ Lo) (hR : RR Lx Lm) {i : Int32} (hin : lw_sc N i) (hroom : c0 + 4000 ≤ 603072 ∧ s0 + 40000 ≤ 7262314) (kk : ∀ L1 L2 c1 s1, RQ L1 L2 → c1 ≤ c0 + 4000 → s1 ≤ s0 + 40000 → LW K L1 L2 c1 s1 1269 (lvL b i) (fun _ _ => [])) : LW K Lx Lm c0 s0 387 (lvL b i) (fun _ _ => []) := by
  obtain ⟨v, L1, L2, c, s, cm, sm, hx, hm, hR1, hc, hs⟩ := hok (xs (i + nI 1).toNatClampNeg) (xs (i + nI 2).toNatClampNeg) (xs (i + nI 3).toNatClampNeg) Lx Lm hR
  obtain ⟨⟨hkx, hzx⟩, hkm, hzm⟩ := h0 Lx Lm hR
  refine lw_ax hK 1 (fun _ _ => rfl) dL_law_387 ?_
  refine lw_cell (n := 1) (v := nI 1) hK hB 3 (fun _ _ => rfl) (fun _ _ => rfl) rfl (hin 1 (by decide)) rfl dL_law_388 dL_law_389 dL_law_390 dL_law_391 dL_law_392 ?_
  refine lw_cell (n := 2) (v := nI 2) hK hB 3 (fun _ _ => rfl) (fun _ _ => rfl) rfl (hin 2 (by decide)) rfl dL_law_393 dL_law_394 dL_law_395 dL_law_396 dL_law_397 ?_
  refine lw_cell (n := 3) (v := nI 3) hK hB 3 (fun _ _ => rfl) (fun _ _ => rfl) rfl (hin 3 (by decide)) rfl dL_law_398 dL_law_399 dL_law_400 dL_law_401 dL_law_402 ?_
  refine lw_callx hK hB (st1 := [aI (xs (i + nI 3).toNatClampNeg), aI (xs (i + nI 2).toNatClampNeg), aI (xs (i + nI 1).toNatClampNeg)]) (st2 := []) (r := some (aI v)) (v1 := [.int (xs (i + nI 3).toNatClampNeg), .int (xs (i + nI 2).toNatClampNeg), .int (xs (i + nI 1).toNatClampNeg)]) (v2 := []) (v3 := [.int v]) (c1 := c) (s1 := s) (rq_V (n := 3) (As := [aI (xs (i + nI 1).toNatClampNeg), aI (xs (i + nI 2).toNatClampNeg), aI (xs (i + nI 3).toNatClampNeg)]) hK (fw_rcvW hK fw_c0 hkx) (fw_czx hZ (ct_X0_event hx)) (lw_V q726 q727 q728 q94 q729) (by decide +kernel) ⟨by omega, by omega⟩ rfl rfl (Nat.le_of_ble_eq_true rfl) dL_law_403) hzx (lw_okz rfl) (fun _ => rfl) (fun _ => rfl) (fun _ => rfl) ⟨by omega, by omega⟩ ?_
  refine lw_am hK 2 (fun _ _ => rfl) dL_law_406 ?_
  refine lw_cell (n := 1) (v := nI 1) hK hB 3 (fun _ _ => rfl) (fun _ _ => rfl) rfl (hin 1 (by decide)) rfl dL_law_407 dL_law_408 dL_law_409 dL_law_410 dL_law_411 ?_
  refine lw_cell (n := 2) (v := nI 2) hK hB 3 (fun _ _ => rfl) (fun _ _ => rfl) rfl (hin 2 (by decide)) rfl dL_law_412 dL_law_413 dL_law_414 dL_law_415 dL_law_416 ?_
  refine lw_cell (n := 3) (v := nI 3) hK hB 3 (fun _ _ => rfl) (fun _ _ => rfl) rfl (hin 3 (by decide)) rfl dL_law_417 dL_law_418 dL_law_419 dL_law_420 dL_law_421 ?_
  refine lw_callm hK hB (st1 := [aI (xs (i + nI 3).toNatClampNeg), aI (xs (i + nI 2).toNatClampNeg), aI (xs (i + nI 1).toNatClampNeg)]) (st2 := [aI v]) (r := some (aI v)) (v1 := [.int (xs (i + nI 3).toNatClampNeg), .int (xs (i + nI 2).toNatClampNeg), .int (xs (i + nI 1).toNatClampNeg)]) (v2 := [.int v]) (v3 := [.int v]) (c1 := cm) (s1 := sm) (rq_V (n := 3) (As := [aI (xs (i + nI 1).toNatClampNeg), aI (xs (i + nI 2).toNatClampNeg), aI (xs (i + nI 3).toNatClampNeg)]) hK (fw_rcvW hK fw_c7 hkm) (ct_X5_event hK.zk hm) (lw_V q1422 q1423 q1424 q102 q1425) (by decide +kernel) ⟨by omega, by omega⟩ rfl rfl (Nat.le_of_ble_eq_true rfl) dL_law_422) hzm (lw_okz rfl) (fun _ => rfl) (fun _ => rfl) (fun _ => rfl) ⟨by omega, by omega⟩ ?_
  refine lw_same (tgt := 1269) hK dL_law_425 (by decide) ?_
  exact kk L1 L2 _ _ hR1 (by omega) (by omega)
set_option maxHeartbeats 2000000 in
theorem lc_8 (hK : Ok K cL_law 4 "TugOfWarLaw" F Lo) (hZ : fw_isZ K) (hB : lw_B K b N xs) (h0 : lw_R0 RR) (hok : lw_ok RR RQ (f_X0_back 0) (f_X5_back 0)) (hFL : 400 ≤ F ∧ 60000 ≤ Lo) (hR : RR Lx Lm) {i : Int32} (hin : lw_sc N i) (hroom : c0 + 4000 ≤ 603072 ∧ s0 + 40000 ≤ 7262314) (kk : ∀ L1 L2 c1 s1, RQ L1 L2 → c1 ≤ c0 + 4000 → s1 ≤ s0 + 40000 → LW K L1 L2 c1 s1 1269 (lvL b i) (fun _ _ => [])) : LW K Lx Lm c0 s0 430 (lvL b i) (fun _ _ => []) := by
  obtain ⟨v, L1, L2, c, s, cm, sm, hx, hm, hR1, hc, hs⟩ := hok Lx Lm hR
  obtain ⟨⟨hkx, hzx⟩, hkm, hzm⟩ := h0 Lx Lm hR
  refine lw_ax hK 1 (fun _ _ => rfl) dL_law_430 ?_
  refine lw_callx hK hB (st1 := []) (st2 := []) (r := some (aI v)) (v1 := []) (v2 := []) (v3 := [.int v]) (c1 := c) (s1 := s) (rq_V (n := 0) (As := []) hK (fw_rcvW hK fw_c0 hkx) (fw_czx hZ (ct_X0_back hx)) (lw_V q732 q733 q734 q94 q735) (by decide +kernel) ⟨by omega, by omega⟩ rfl rfl (Nat.le_of_ble_eq_true rfl) dL_law_431) hzx (lw_okz rfl) (fun _ => rfl) (fun _ => rfl) (fun _ => rfl) ⟨by omega, by omega⟩ ?_
  refine lw_am hK 2 (fun _ _ => rfl) dL_law_434 ?_
  refine lw_callm hK hB (st1 := []) (st2 := [aI v]) (r := some (aI v)) (v1 := []) (v2 := [.int v]) (v3 := [.int v]) (c1 := cm) (s1 := sm) (rq_V (n := 0) (As := []) hK (fw_rcvW hK fw_c7 hkm) (ct_X5_back hK.zk hm) (lw_V q1426 q1427 q1428 q102 q1429) (by decide +kernel) ⟨by omega, by omega⟩ rfl rfl (Nat.le_of_ble_eq_true rfl) dL_law_435) hzm (lw_okz rfl) (fun _ => rfl) (fun _ => rfl) (fun _ => rfl) ⟨by omega, by omega⟩ ?_
  refine lw_same (tgt := 1269) hK dL_law_438 (by decide) ?_
  exact kk L1 L2 _ _ hR1 (by omega) (by omega)
set_option maxHeartbeats 2000000 in
theorem lc_9 (hK : Ok K cL_law 4 "TugOfWarLaw" F Lo) (hZ : fw_isZ K) (hB : lw_B K b N xs) (h0 : lw_R0 RR) (hok : ∀ a1 : Int32, lw_ok RR RQ (f_X0_read 0 a1) (f_X5_read 0 a1)) (hFL : 400 ≤ F ∧ 60000 ≤ Lo) (hR : RR Lx Lm) {i : Int32} (hin : lw_sc N i) (hroom : c0 + 4000 ≤ 603072 ∧ s0 + 40000 ≤ 7262314) (kk : ∀ L1 L2 c1 s1, RQ L1 L2 → c1 ≤ c0 + 4000 → s1 ≤ s0 + 40000 → LW K L1 L2 c1 s1 1269 (lvL b i) (fun _ _ => [])) : LW K Lx Lm c0 s0 443 (lvL b i) (fun _ _ => []) := by
  obtain ⟨v, L1, L2, c, s, cm, sm, hx, hm, hR1, hc, hs⟩ := hok (xs (i + nI 1).toNatClampNeg) Lx Lm hR
  obtain ⟨⟨hkx, hzx⟩, hkm, hzm⟩ := h0 Lx Lm hR
  refine lw_ax hK 1 (fun _ _ => rfl) dL_law_443 ?_
  refine lw_cell (n := 1) (v := nI 1) hK hB 3 (fun _ _ => rfl) (fun _ _ => rfl) rfl (hin 1 (by decide)) rfl dL_law_444 dL_law_445 dL_law_446 dL_law_447 dL_law_448 ?_
  refine lw_callx hK hB (st1 := [aI (xs (i + nI 1).toNatClampNeg)]) (st2 := []) (r := some (aI v)) (v1 := [.int (xs (i + nI 1).toNatClampNeg)]) (v2 := []) (v3 := [.int v]) (c1 := c) (s1 := s) (rq_V (n := 1) (As := [aI (xs (i + nI 1).toNatClampNeg)]) hK (fw_rcvW hK fw_c0 hkx) (fw_czx hZ (ct_X0_read hx)) (lw_V q749 q750 q751 q94 q752) (by decide +kernel) ⟨by omega, by omega⟩ rfl rfl (Nat.le_of_ble_eq_true rfl) dL_law_449) hzx (lw_okz rfl) (fun _ => rfl) (fun _ => rfl) (fun _ => rfl) ⟨by omega, by omega⟩ ?_
  refine lw_am hK 2 (fun _ _ => rfl) dL_law_452 ?_
  refine lw_cell (n := 1) (v := nI 1) hK hB 3 (fun _ _ => rfl) (fun _ _ => rfl) rfl (hin 1 (by decide)) rfl dL_law_453 dL_law_454 dL_law_455 dL_law_456 dL_law_457 ?_
  refine lw_callm hK hB (st1 := [aI (xs (i + nI 1).toNatClampNeg)]) (st2 := [aI v]) (r := some (aI v)) (v1 := [.int (xs (i + nI 1).toNatClampNeg)]) (v2 := [.int v]) (v3 := [.int v]) (c1 := cm) (s1 := sm) (rq_V (n := 1) (As := [aI (xs (i + nI 1).toNatClampNeg)]) hK (fw_rcvW hK fw_c7 hkm) (ct_X5_read hK.zk hm) (lw_V q1430 q1431 q1432 q102 q1433) (by decide +kernel) ⟨by omega, by omega⟩ rfl rfl (Nat.le_of_ble_eq_true rfl) dL_law_458) hzm (lw_okz rfl) (fun _ => rfl) (fun _ => rfl) (fun _ => rfl) ⟨by omega, by omega⟩ ?_
  refine lw_same (tgt := 1269) hK dL_law_461 (by decide) ?_
  exact kk L1 L2 _ _ hR1 (by omega) (by omega)
set_option maxHeartbeats 2000000 in
theorem lc_10 (hK : Ok K cL_law 4 "TugOfWarLaw" F Lo) (hZ : fw_isZ K) (hB : lw_B K b N xs) (h0 : lw_R0 RR) (hok : ∀ a1 a2 : Int32, lw_ok RR RQ (f_X0_rope 0 a1 a2) (f_X5_rope 0 a1 a2)) (hFL : 400 ≤ F ∧ 60000 ≤ Lo) (hR : RR Lx Lm) {i : Int32} (hin : lw_sc N i) (hroom : c0 + 4000 ≤ 603072 ∧ s0 + 40000 ≤ 7262314) (kk : ∀ L1 L2 c1 s1, RQ L1 L2 → c1 ≤ c0 + 4000 → s1 ≤ s0 + 40000 → LW K L1 L2 c1 s1 1269 (lvL b i) (fun _ _ => [])) : LW K Lx Lm c0 s0 466 (lvL b i) (fun _ _ => []) := by
  obtain ⟨v, L1, L2, c, s, cm, sm, hx, hm, hR1, hc, hs⟩ := hok (xs (i + nI 1).toNatClampNeg) (xs (i + nI 2).toNatClampNeg) Lx Lm hR
  obtain ⟨⟨hkx, hzx⟩, hkm, hzm⟩ := h0 Lx Lm hR
  refine lw_ax hK 1 (fun _ _ => rfl) dL_law_466 ?_
  refine lw_cell (n := 1) (v := nI 1) hK hB 3 (fun _ _ => rfl) (fun _ _ => rfl) rfl (hin 1 (by decide)) rfl dL_law_467 dL_law_468 dL_law_469 dL_law_470 dL_law_471 ?_
  refine lw_cell (n := 2) (v := nI 2) hK hB 3 (fun _ _ => rfl) (fun _ _ => rfl) rfl (hin 2 (by decide)) rfl dL_law_472 dL_law_473 dL_law_474 dL_law_475 dL_law_476 ?_
  refine lw_callx hK hB (st1 := [aI (xs (i + nI 2).toNatClampNeg), aI (xs (i + nI 1).toNatClampNeg)]) (st2 := []) (r := some (aI v)) (v1 := [.int (xs (i + nI 2).toNatClampNeg), .int (xs (i + nI 1).toNatClampNeg)]) (v2 := []) (v3 := [.int v]) (c1 := c) (s1 := s) (rq_V (n := 2) (As := [aI (xs (i + nI 1).toNatClampNeg), aI (xs (i + nI 2).toNatClampNeg)]) hK (fw_rcvW hK fw_c0 hkx) (fw_czx hZ (ct_X0_rope hx)) (lw_V q777 q778 q779 q94 q780) (by decide +kernel) ⟨by omega, by omega⟩ rfl rfl (Nat.le_of_ble_eq_true rfl) dL_law_477) hzx (lw_okz rfl) (fun _ => rfl) (fun _ => rfl) (fun _ => rfl) ⟨by omega, by omega⟩ ?_
  refine lw_am hK 2 (fun _ _ => rfl) dL_law_480 ?_
  refine lw_cell (n := 1) (v := nI 1) hK hB 3 (fun _ _ => rfl) (fun _ _ => rfl) rfl (hin 1 (by decide)) rfl dL_law_481 dL_law_482 dL_law_483 dL_law_484 dL_law_485 ?_
  refine lw_cell (n := 2) (v := nI 2) hK hB 3 (fun _ _ => rfl) (fun _ _ => rfl) rfl (hin 2 (by decide)) rfl dL_law_486 dL_law_487 dL_law_488 dL_law_489 dL_law_490 ?_
  refine lw_callm hK hB (st1 := [aI (xs (i + nI 2).toNatClampNeg), aI (xs (i + nI 1).toNatClampNeg)]) (st2 := [aI v]) (r := some (aI v)) (v1 := [.int (xs (i + nI 2).toNatClampNeg), .int (xs (i + nI 1).toNatClampNeg)]) (v2 := [.int v]) (v3 := [.int v]) (c1 := cm) (s1 := sm) (rq_V (n := 2) (As := [aI (xs (i + nI 1).toNatClampNeg), aI (xs (i + nI 2).toNatClampNeg)]) hK (fw_rcvW hK fw_c7 hkm) (ct_X5_rope hK.zk hm) (lw_V q1442 q1443 q1444 q102 q1445) (by decide +kernel) ⟨by omega, by omega⟩ rfl rfl (Nat.le_of_ble_eq_true rfl) dL_law_491) hzm (lw_okz rfl) (fun _ => rfl) (fun _ => rfl) (fun _ => rfl) ⟨by omega, by omega⟩ ?_
  refine lw_same (tgt := 1269) hK dL_law_494 (by decide) ?_
  exact kk L1 L2 _ _ hR1 (by omega) (by omega)
set_option maxHeartbeats 2000000 in
theorem lc_11 (hK : Ok K cL_law 4 "TugOfWarLaw" F Lo) (hZ : fw_isZ K) (hB : lw_B K b N xs) (h0 : lw_R0 RR) (hok : ∀ a1 a2 a3 : Int32, lw_ok RR RQ (f_X0_at 0 a1 a2 a3) (f_X5_at 0 a1 a2 a3)) (hFL : 400 ≤ F ∧ 60000 ≤ Lo) (hR : RR Lx Lm) {i : Int32} (hin : lw_sc N i) (hroom : c0 + 4000 ≤ 603072 ∧ s0 + 40000 ≤ 7262314) (kk : ∀ L1 L2 c1 s1, RQ L1 L2 → c1 ≤ c0 + 4000 → s1 ≤ s0 + 40000 → LW K L1 L2 c1 s1 1269 (lvL b i) (fun _ _ => [])) : LW K Lx Lm c0 s0 499 (lvL b i) (fun _ _ => []) := by
  obtain ⟨v, L1, L2, c, s, cm, sm, hx, hm, hR1, hc, hs⟩ := hok (xs (i + nI 1).toNatClampNeg) (xs (i + nI 2).toNatClampNeg) (xs (i + nI 3).toNatClampNeg) Lx Lm hR
  obtain ⟨⟨hkx, hzx⟩, hkm, hzm⟩ := h0 Lx Lm hR
  refine lw_ax hK 1 (fun _ _ => rfl) dL_law_499 ?_
  refine lw_cell (n := 1) (v := nI 1) hK hB 3 (fun _ _ => rfl) (fun _ _ => rfl) rfl (hin 1 (by decide)) rfl dL_law_500 dL_law_501 dL_law_502 dL_law_503 dL_law_504 ?_
  refine lw_cell (n := 2) (v := nI 2) hK hB 3 (fun _ _ => rfl) (fun _ _ => rfl) rfl (hin 2 (by decide)) rfl dL_law_505 dL_law_506 dL_law_507 dL_law_508 dL_law_509 ?_
  refine lw_cell (n := 3) (v := nI 3) hK hB 3 (fun _ _ => rfl) (fun _ _ => rfl) rfl (hin 3 (by decide)) rfl dL_law_510 dL_law_511 dL_law_512 dL_law_513 dL_law_514 ?_
  refine lw_callx hK hB (st1 := [aI (xs (i + nI 3).toNatClampNeg), aI (xs (i + nI 2).toNatClampNeg), aI (xs (i + nI 1).toNatClampNeg)]) (st2 := []) (r := some (aI v)) (v1 := [.int (xs (i + nI 3).toNatClampNeg), .int (xs (i + nI 2).toNatClampNeg), .int (xs (i + nI 1).toNatClampNeg)]) (v2 := []) (v3 := [.int v]) (c1 := c) (s1 := s) (rq_V (n := 3) (As := [aI (xs (i + nI 1).toNatClampNeg), aI (xs (i + nI 2).toNatClampNeg), aI (xs (i + nI 3).toNatClampNeg)]) hK (fw_rcvW hK fw_c0 hkx) (fw_czx hZ (ct_X0_at hx)) (lw_V q874 q875 q876 q94 q877) (by decide +kernel) ⟨by omega, by omega⟩ rfl rfl (Nat.le_of_ble_eq_true rfl) dL_law_515) hzx (lw_okz rfl) (fun _ => rfl) (fun _ => rfl) (fun _ => rfl) ⟨by omega, by omega⟩ ?_
  refine lw_am hK 2 (fun _ _ => rfl) dL_law_518 ?_
  refine lw_cell (n := 1) (v := nI 1) hK hB 3 (fun _ _ => rfl) (fun _ _ => rfl) rfl (hin 1 (by decide)) rfl dL_law_519 dL_law_520 dL_law_521 dL_law_522 dL_law_523 ?_
  refine lw_cell (n := 2) (v := nI 2) hK hB 3 (fun _ _ => rfl) (fun _ _ => rfl) rfl (hin 2 (by decide)) rfl dL_law_524 dL_law_525 dL_law_526 dL_law_527 dL_law_528 ?_
  refine lw_cell (n := 3) (v := nI 3) hK hB 3 (fun _ _ => rfl) (fun _ _ => rfl) rfl (hin 3 (by decide)) rfl dL_law_529 dL_law_530 dL_law_531 dL_law_532 dL_law_533 ?_
  refine lw_callm hK hB (st1 := [aI (xs (i + nI 3).toNatClampNeg), aI (xs (i + nI 2).toNatClampNeg), aI (xs (i + nI 1).toNatClampNeg)]) (st2 := [aI v]) (r := some (aI v)) (v1 := [.int (xs (i + nI 3).toNatClampNeg), .int (xs (i + nI 2).toNatClampNeg), .int (xs (i + nI 1).toNatClampNeg)]) (v2 := [.int v]) (v3 := [.int v]) (c1 := cm) (s1 := sm) (rq_V (n := 3) (As := [aI (xs (i + nI 1).toNatClampNeg), aI (xs (i + nI 2).toNatClampNeg), aI (xs (i + nI 3).toNatClampNeg)]) hK (fw_rcvW hK fw_c7 hkm) (ct_X5_at hK.zk hm) (lw_V q1489 q1490 q1491 q102 q1492) (by decide +kernel) ⟨by omega, by omega⟩ rfl rfl (Nat.le_of_ble_eq_true rfl) dL_law_534) hzm (lw_okz rfl) (fun _ => rfl) (fun _ => rfl) (fun _ => rfl) ⟨by omega, by omega⟩ ?_
  refine lw_same (tgt := 1269) hK dL_law_537 (by decide) ?_
  exact kk L1 L2 _ _ hR1 (by omega) (by omega)
set_option maxHeartbeats 2000000 in
theorem lc_12 (hK : Ok K cL_law 4 "TugOfWarLaw" F Lo) (hZ : fw_isZ K) (hB : lw_B K b N xs) (h0 : lw_R0 RR) (hok : ∀ a1 : Int32, lw_ok RR RQ (f_X0_won 0 a1) (f_X5_won 0 a1)) (hFL : 400 ≤ F ∧ 60000 ≤ Lo) (hR : RR Lx Lm) {i : Int32} (hin : lw_sc N i) (hroom : c0 + 4000 ≤ 603072 ∧ s0 + 40000 ≤ 7262314) (kk : ∀ L1 L2 c1 s1, RQ L1 L2 → c1 ≤ c0 + 4000 → s1 ≤ s0 + 40000 → LW K L1 L2 c1 s1 1269 (lvL b i) (fun _ _ => [])) : LW K Lx Lm c0 s0 542 (lvL b i) (fun _ _ => []) := by
  obtain ⟨v, L1, L2, c, s, cm, sm, hx, hm, hR1, hc, hs⟩ := hok (xs (i + nI 1).toNatClampNeg) Lx Lm hR
  obtain ⟨⟨hkx, hzx⟩, hkm, hzm⟩ := h0 Lx Lm hR
  refine lw_ax hK 1 (fun _ _ => rfl) dL_law_542 ?_
  refine lw_cell (n := 1) (v := nI 1) hK hB 3 (fun _ _ => rfl) (fun _ _ => rfl) rfl (hin 1 (by decide)) rfl dL_law_543 dL_law_544 dL_law_545 dL_law_546 dL_law_547 ?_
  refine lw_callx hK hB (st1 := [aI (xs (i + nI 1).toNatClampNeg)]) (st2 := []) (r := some (aI v)) (v1 := [.int (xs (i + nI 1).toNatClampNeg)]) (v2 := []) (v3 := [.int v]) (c1 := c) (s1 := s) (rq_V (n := 1) (As := [aI (xs (i + nI 1).toNatClampNeg)]) hK (fw_rcvW hK fw_c0 hkx) (fw_czx hZ (ct_X0_won hx)) (lw_V q882 q883 q884 q94 q885) (by decide +kernel) ⟨by omega, by omega⟩ rfl rfl (Nat.le_of_ble_eq_true rfl) dL_law_548) hzx (lw_okz rfl) (fun _ => rfl) (fun _ => rfl) (fun _ => rfl) ⟨by omega, by omega⟩ ?_
  refine lw_am hK 2 (fun _ _ => rfl) dL_law_551 ?_
  refine lw_cell (n := 1) (v := nI 1) hK hB 3 (fun _ _ => rfl) (fun _ _ => rfl) rfl (hin 1 (by decide)) rfl dL_law_552 dL_law_553 dL_law_554 dL_law_555 dL_law_556 ?_
  refine lw_callm hK hB (st1 := [aI (xs (i + nI 1).toNatClampNeg)]) (st2 := [aI v]) (r := some (aI v)) (v1 := [.int (xs (i + nI 1).toNatClampNeg)]) (v2 := [.int v]) (v3 := [.int v]) (c1 := cm) (s1 := sm) (rq_V (n := 1) (As := [aI (xs (i + nI 1).toNatClampNeg)]) hK (fw_rcvW hK fw_c7 hkm) (ct_X5_won hK.zk hm) (lw_V q1497 q1498 q1499 q102 q1500) (by decide +kernel) ⟨by omega, by omega⟩ rfl rfl (Nat.le_of_ble_eq_true rfl) dL_law_557) hzm (lw_okz rfl) (fun _ => rfl) (fun _ => rfl) (fun _ => rfl) ⟨by omega, by omega⟩ ?_
  refine lw_same (tgt := 1269) hK dL_law_560 (by decide) ?_
  exact kk L1 L2 _ _ hR1 (by omega) (by omega)
set_option maxHeartbeats 2000000 in
theorem lc_13 (hK : Ok K cL_law 4 "TugOfWarLaw" F Lo) (hZ : fw_isZ K) (hB : lw_B K b N xs) (h0 : lw_R0 RR) (hok : ∀ a1 : Int32, lw_ok RR RQ (f_X0_furthest 0 a1) (f_X5_furthest 0 a1)) (hFL : 400 ≤ F ∧ 60000 ≤ Lo) (hR : RR Lx Lm) {i : Int32} (hin : lw_sc N i) (hroom : c0 + 4000 ≤ 603072 ∧ s0 + 40000 ≤ 7262314) (kk : ∀ L1 L2 c1 s1, RQ L1 L2 → c1 ≤ c0 + 4000 → s1 ≤ s0 + 40000 → LW K L1 L2 c1 s1 1269 (lvL b i) (fun _ _ => [])) : LW K Lx Lm c0 s0 565 (lvL b i) (fun _ _ => []) := by
  obtain ⟨v, L1, L2, c, s, cm, sm, hx, hm, hR1, hc, hs⟩ := hok (xs (i + nI 1).toNatClampNeg) Lx Lm hR
  obtain ⟨⟨hkx, hzx⟩, hkm, hzm⟩ := h0 Lx Lm hR
  refine lw_ax hK 1 (fun _ _ => rfl) dL_law_565 ?_
  refine lw_cell (n := 1) (v := nI 1) hK hB 3 (fun _ _ => rfl) (fun _ _ => rfl) rfl (hin 1 (by decide)) rfl dL_law_566 dL_law_567 dL_law_568 dL_law_569 dL_law_570 ?_
  refine lw_callx hK hB (st1 := [aI (xs (i + nI 1).toNatClampNeg)]) (st2 := []) (r := some (aI v)) (v1 := [.int (xs (i + nI 1).toNatClampNeg)]) (v2 := []) (v3 := [.int v]) (c1 := c) (s1 := s) (rq_V (n := 1) (As := [aI (xs (i + nI 1).toNatClampNeg)]) hK (fw_rcvW hK fw_c0 hkx) (fw_czx hZ (ct_X0_furthest hx)) (lw_V q890 q891 q892 q94 q893) (by decide +kernel) ⟨by omega, by omega⟩ rfl rfl (Nat.le_of_ble_eq_true rfl) dL_law_571) hzx (lw_okz rfl) (fun _ => rfl) (fun _ => rfl) (fun _ => rfl) ⟨by omega, by omega⟩ ?_
  refine lw_am hK 2 (fun _ _ => rfl) dL_law_574 ?_
  refine lw_cell (n := 1) (v := nI 1) hK hB 3 (fun _ _ => rfl) (fun _ _ => rfl) rfl (hin 1 (by decide)) rfl dL_law_575 dL_law_576 dL_law_577 dL_law_578 dL_law_579 ?_
  refine lw_callm hK hB (st1 := [aI (xs (i + nI 1).toNatClampNeg)]) (st2 := [aI v]) (r := some (aI v)) (v1 := [.int (xs (i + nI 1).toNatClampNeg)]) (v2 := [.int v]) (v3 := [.int v]) (c1 := cm) (s1 := sm) (rq_V (n := 1) (As := [aI (xs (i + nI 1).toNatClampNeg)]) hK (fw_rcvW hK fw_c7 hkm) (ct_X5_furthest hK.zk hm) (lw_V q1505 q1506 q1507 q102 q1508) (by decide +kernel) ⟨by omega, by omega⟩ rfl rfl (Nat.le_of_ble_eq_true rfl) dL_law_580) hzm (lw_okz rfl) (fun _ => rfl) (fun _ => rfl) (fun _ => rfl) ⟨by omega, by omega⟩ ?_
  refine lw_same (tgt := 1269) hK dL_law_583 (by decide) ?_
  exact kk L1 L2 _ _ hR1 (by omega) (by omega)
set_option maxHeartbeats 2000000 in
theorem lc_14 (hK : Ok K cL_law 4 "TugOfWarLaw" F Lo) (hZ : fw_isZ K) (hB : lw_B K b N xs) (h0 : lw_R0 RR) (hok : ∀ a1 : Int32, lw_ok RR RQ (f_X0_done 0 a1) (f_X5_done 0 a1)) (hFL : 400 ≤ F ∧ 60000 ≤ Lo) (hR : RR Lx Lm) {i : Int32} (hin : lw_sc N i) (hroom : c0 + 4000 ≤ 603072 ∧ s0 + 40000 ≤ 7262314) (kk : ∀ L1 L2 c1 s1, RQ L1 L2 → c1 ≤ c0 + 4000 → s1 ≤ s0 + 40000 → LW K L1 L2 c1 s1 1269 (lvL b i) (fun _ _ => [])) : LW K Lx Lm c0 s0 588 (lvL b i) (fun _ _ => []) := by
  obtain ⟨v, L1, L2, c, s, cm, sm, hx, hm, hR1, hc, hs⟩ := hok (xs (i + nI 1).toNatClampNeg) Lx Lm hR
  obtain ⟨⟨hkx, hzx⟩, hkm, hzm⟩ := h0 Lx Lm hR
  refine lw_ax hK 1 (fun _ _ => rfl) dL_law_588 ?_
  refine lw_cell (n := 1) (v := nI 1) hK hB 3 (fun _ _ => rfl) (fun _ _ => rfl) rfl (hin 1 (by decide)) rfl dL_law_589 dL_law_590 dL_law_591 dL_law_592 dL_law_593 ?_
  refine lw_callx hK hB (st1 := [aI (xs (i + nI 1).toNatClampNeg)]) (st2 := []) (r := some (aI v)) (v1 := [.int (xs (i + nI 1).toNatClampNeg)]) (v2 := []) (v3 := [.int v]) (c1 := c) (s1 := s) (rq_V (n := 1) (As := [aI (xs (i + nI 1).toNatClampNeg)]) hK (fw_rcvW hK fw_c0 hkx) (fw_czx hZ (ct_X0_done hx)) (lw_V q899 q900 q901 q94 q902) (by decide +kernel) ⟨by omega, by omega⟩ rfl rfl (Nat.le_of_ble_eq_true rfl) dL_law_594) hzx (lw_okz rfl) (fun _ => rfl) (fun _ => rfl) (fun _ => rfl) ⟨by omega, by omega⟩ ?_
  refine lw_am hK 2 (fun _ _ => rfl) dL_law_597 ?_
  refine lw_cell (n := 1) (v := nI 1) hK hB 3 (fun _ _ => rfl) (fun _ _ => rfl) rfl (hin 1 (by decide)) rfl dL_law_598 dL_law_599 dL_law_600 dL_law_601 dL_law_602 ?_
  refine lw_callm hK hB (st1 := [aI (xs (i + nI 1).toNatClampNeg)]) (st2 := [aI v]) (r := some (aI v)) (v1 := [.int (xs (i + nI 1).toNatClampNeg)]) (v2 := [.int v]) (v3 := [.int v]) (c1 := cm) (s1 := sm) (rq_V (n := 1) (As := [aI (xs (i + nI 1).toNatClampNeg)]) hK (fw_rcvW hK fw_c7 hkm) (ct_X5_done hK.zk hm) (lw_V q1513 q1514 q1515 q102 q1516) (by decide +kernel) ⟨by omega, by omega⟩ rfl rfl (Nat.le_of_ble_eq_true rfl) dL_law_603) hzm (lw_okz rfl) (fun _ => rfl) (fun _ => rfl) (fun _ => rfl) ⟨by omega, by omega⟩ ?_
  refine lw_same (tgt := 1269) hK dL_law_606 (by decide) ?_
  exact kk L1 L2 _ _ hR1 (by omega) (by omega)
set_option maxHeartbeats 2000000 in
theorem lc_15 (hK : Ok K cL_law 4 "TugOfWarLaw" F Lo) (hZ : fw_isZ K) (hB : lw_B K b N xs) (h0 : lw_R0 RR) (hok : lw_ok RR RQ (f_X0_spent 0) (f_X5_spent 0)) (hFL : 400 ≤ F ∧ 60000 ≤ Lo) (hR : RR Lx Lm) {i : Int32} (hin : lw_sc N i) (hroom : c0 + 4000 ≤ 603072 ∧ s0 + 40000 ≤ 7262314) (kk : ∀ L1 L2 c1 s1, RQ L1 L2 → c1 ≤ c0 + 4000 → s1 ≤ s0 + 40000 → LW K L1 L2 c1 s1 1269 (lvL b i) (fun _ _ => [])) : LW K Lx Lm c0 s0 611 (lvL b i) (fun _ _ => []) := by
  obtain ⟨v, L1, L2, c, s, cm, sm, hx, hm, hR1, hc, hs⟩ := hok Lx Lm hR
  obtain ⟨⟨hkx, hzx⟩, hkm, hzm⟩ := h0 Lx Lm hR
  refine lw_ax hK 1 (fun _ _ => rfl) dL_law_611 ?_
  refine lw_callx hK hB (st1 := []) (st2 := []) (r := some (aI v)) (v1 := []) (v2 := []) (v3 := [.int v]) (c1 := c) (s1 := s) (rq_V (n := 0) (As := []) hK (fw_rcvW hK fw_c0 hkx) (fw_czx hZ (ct_X0_spent hx)) (lw_V q903 q904 q905 q94 q906) (by decide +kernel) ⟨by omega, by omega⟩ rfl rfl (Nat.le_of_ble_eq_true rfl) dL_law_612) hzx (lw_okz rfl) (fun _ => rfl) (fun _ => rfl) (fun _ => rfl) ⟨by omega, by omega⟩ ?_
  refine lw_am hK 2 (fun _ _ => rfl) dL_law_615 ?_
  refine lw_callm hK hB (st1 := []) (st2 := [aI v]) (r := some (aI v)) (v1 := []) (v2 := [.int v]) (v3 := [.int v]) (c1 := cm) (s1 := sm) (rq_V (n := 0) (As := []) hK (fw_rcvW hK fw_c7 hkm) (ct_X5_spent hK.zk hm) (lw_V q1521 q1522 q1523 q102 q1524) (by decide +kernel) ⟨by omega, by omega⟩ rfl rfl (Nat.le_of_ble_eq_true rfl) dL_law_616) hzm (lw_okz rfl) (fun _ => rfl) (fun _ => rfl) (fun _ => rfl) ⟨by omega, by omega⟩ ?_
  refine lw_same (tgt := 1269) hK dL_law_619 (by decide) ?_
  exact kk L1 L2 _ _ hR1 (by omega) (by omega)
set_option maxHeartbeats 2000000 in
theorem lc_16 (hK : Ok K cL_law 4 "TugOfWarLaw" F Lo) (hZ : fw_isZ K) (hB : lw_B K b N xs) (h0 : lw_R0 RR) (hok : lw_ok RR RQ (f_X0_best 0) (f_X5_best 0)) (hFL : 400 ≤ F ∧ 60000 ≤ Lo) (hR : RR Lx Lm) {i : Int32} (hin : lw_sc N i) (hroom : c0 + 4000 ≤ 603072 ∧ s0 + 40000 ≤ 7262314) (kk : ∀ L1 L2 c1 s1, RQ L1 L2 → c1 ≤ c0 + 4000 → s1 ≤ s0 + 40000 → LW K L1 L2 c1 s1 1269 (lvL b i) (fun _ _ => [])) : LW K Lx Lm c0 s0 624 (lvL b i) (fun _ _ => []) := by
  obtain ⟨v, L1, L2, c, s, cm, sm, hx, hm, hR1, hc, hs⟩ := hok Lx Lm hR
  obtain ⟨⟨hkx, hzx⟩, hkm, hzm⟩ := h0 Lx Lm hR
  refine lw_ax hK 1 (fun _ _ => rfl) dL_law_624 ?_
  refine lw_callx hK hB (st1 := []) (st2 := []) (r := some (aI v)) (v1 := []) (v2 := []) (v3 := [.int v]) (c1 := c) (s1 := s) (rq_V (n := 0) (As := []) hK (fw_rcvW hK fw_c0 hkx) (fw_czx hZ (ct_X0_best hx)) (lw_V q911 q912 q913 q94 q914) (by decide +kernel) ⟨by omega, by omega⟩ rfl rfl (Nat.le_of_ble_eq_true rfl) dL_law_625) hzx (lw_okz rfl) (fun _ => rfl) (fun _ => rfl) (fun _ => rfl) ⟨by omega, by omega⟩ ?_
  refine lw_am hK 2 (fun _ _ => rfl) dL_law_628 ?_
  refine lw_callm hK hB (st1 := []) (st2 := [aI v]) (r := some (aI v)) (v1 := []) (v2 := [.int v]) (v3 := [.int v]) (c1 := cm) (s1 := sm) (rq_V (n := 0) (As := []) hK (fw_rcvW hK fw_c7 hkm) (ct_X5_best hK.zk hm) (lw_V q1529 q1530 q1531 q102 q1532) (by decide +kernel) ⟨by omega, by omega⟩ rfl rfl (Nat.le_of_ble_eq_true rfl) dL_law_629) hzm (lw_okz rfl) (fun _ => rfl) (fun _ => rfl) (fun _ => rfl) ⟨by omega, by omega⟩ ?_
  refine lw_same (tgt := 1269) hK dL_law_632 (by decide) ?_
  exact kk L1 L2 _ _ hR1 (by omega) (by omega)
set_option maxHeartbeats 2000000 in
theorem lc_17 (hK : Ok K cL_law 4 "TugOfWarLaw" F Lo) (hZ : fw_isZ K) (hB : lw_B K b N xs) (h0 : lw_R0 RR) (hok : lw_ok RR RQ (f_X0_level 0) (f_X5_level 0)) (hFL : 400 ≤ F ∧ 60000 ≤ Lo) (hR : RR Lx Lm) {i : Int32} (hin : lw_sc N i) (hroom : c0 + 4000 ≤ 603072 ∧ s0 + 40000 ≤ 7262314) (kk : ∀ L1 L2 c1 s1, RQ L1 L2 → c1 ≤ c0 + 4000 → s1 ≤ s0 + 40000 → LW K L1 L2 c1 s1 1269 (lvL b i) (fun _ _ => [])) : LW K Lx Lm c0 s0 637 (lvL b i) (fun _ _ => []) := by
  obtain ⟨v, L1, L2, c, s, cm, sm, hx, hm, hR1, hc, hs⟩ := hok Lx Lm hR
  obtain ⟨⟨hkx, hzx⟩, hkm, hzm⟩ := h0 Lx Lm hR
  refine lw_ax hK 1 (fun _ _ => rfl) dL_law_637 ?_
  refine lw_callx hK hB (st1 := []) (st2 := []) (r := some (aI v)) (v1 := []) (v2 := []) (v3 := [.int v]) (c1 := c) (s1 := s) (rq_V (n := 0) (As := []) hK (fw_rcvW hK fw_c0 hkx) (fw_czx hZ (ct_X0_level hx)) (lw_V q919 q920 q921 q94 q922) (by decide +kernel) ⟨by omega, by omega⟩ rfl rfl (Nat.le_of_ble_eq_true rfl) dL_law_638) hzx (lw_okz rfl) (fun _ => rfl) (fun _ => rfl) (fun _ => rfl) ⟨by omega, by omega⟩ ?_
  refine lw_am hK 2 (fun _ _ => rfl) dL_law_641 ?_
  refine lw_callm hK hB (st1 := []) (st2 := [aI v]) (r := some (aI v)) (v1 := []) (v2 := [.int v]) (v3 := [.int v]) (c1 := cm) (s1 := sm) (rq_V (n := 0) (As := []) hK (fw_rcvW hK fw_c7 hkm) (ct_X5_level hK.zk hm) (lw_V q1537 q1538 q1539 q102 q1540) (by decide +kernel) ⟨by omega, by omega⟩ rfl rfl (Nat.le_of_ble_eq_true rfl) dL_law_642) hzm (lw_okz rfl) (fun _ => rfl) (fun _ => rfl) (fun _ => rfl) ⟨by omega, by omega⟩ ?_
  refine lw_same (tgt := 1269) hK dL_law_645 (by decide) ?_
  exact kk L1 L2 _ _ hR1 (by omega) (by omega)
set_option maxHeartbeats 2000000 in
theorem lc_18 (hK : Ok K cL_law 4 "TugOfWarLaw" F Lo) (hZ : fw_isZ K) (hB : lw_B K b N xs) (h0 : lw_R0 RR) (hok : ∀ a1 a2 a3 : Int32, lw_ok RR RQ (f_X0_better 0 a1 a2 a3) (f_X5_better 0 a1 a2 a3)) (hFL : 400 ≤ F ∧ 60000 ≤ Lo) (hR : RR Lx Lm) {i : Int32} (hin : lw_sc N i) (hroom : c0 + 4000 ≤ 603072 ∧ s0 + 40000 ≤ 7262314) (kk : ∀ L1 L2 c1 s1, RQ L1 L2 → c1 ≤ c0 + 4000 → s1 ≤ s0 + 40000 → LW K L1 L2 c1 s1 1269 (lvL b i) (fun _ _ => [])) : LW K Lx Lm c0 s0 650 (lvL b i) (fun _ _ => []) := by
  obtain ⟨v, L1, L2, c, s, cm, sm, hx, hm, hR1, hc, hs⟩ := hok (xs (i + nI 1).toNatClampNeg) (xs (i + nI 2).toNatClampNeg) (xs (i + nI 3).toNatClampNeg) Lx Lm hR
  obtain ⟨⟨hkx, hzx⟩, hkm, hzm⟩ := h0 Lx Lm hR
  refine lw_ax hK 1 (fun _ _ => rfl) dL_law_650 ?_
  refine lw_cell (n := 1) (v := nI 1) hK hB 3 (fun _ _ => rfl) (fun _ _ => rfl) rfl (hin 1 (by decide)) rfl dL_law_651 dL_law_652 dL_law_653 dL_law_654 dL_law_655 ?_
  refine lw_cell (n := 2) (v := nI 2) hK hB 3 (fun _ _ => rfl) (fun _ _ => rfl) rfl (hin 2 (by decide)) rfl dL_law_656 dL_law_657 dL_law_658 dL_law_659 dL_law_660 ?_
  refine lw_cell (n := 3) (v := nI 3) hK hB 3 (fun _ _ => rfl) (fun _ _ => rfl) rfl (hin 3 (by decide)) rfl dL_law_661 dL_law_662 dL_law_663 dL_law_664 dL_law_665 ?_
  refine lw_callx hK hB (st1 := [aI (xs (i + nI 3).toNatClampNeg), aI (xs (i + nI 2).toNatClampNeg), aI (xs (i + nI 1).toNatClampNeg)]) (st2 := []) (r := some (aI v)) (v1 := [.int (xs (i + nI 3).toNatClampNeg), .int (xs (i + nI 2).toNatClampNeg), .int (xs (i + nI 1).toNatClampNeg)]) (v2 := []) (v3 := [.int v]) (c1 := c) (s1 := s) (rq_V (n := 3) (As := [aI (xs (i + nI 1).toNatClampNeg), aI (xs (i + nI 2).toNatClampNeg), aI (xs (i + nI 3).toNatClampNeg)]) hK (fw_rcvW hK fw_c0 hkx) (fw_czx hZ (ct_X0_better hx)) (lw_V q923 q924 q925 q94 q926) (by decide +kernel) ⟨by omega, by omega⟩ rfl rfl (Nat.le_of_ble_eq_true rfl) dL_law_666) hzx (lw_okz rfl) (fun _ => rfl) (fun _ => rfl) (fun _ => rfl) ⟨by omega, by omega⟩ ?_
  refine lw_am hK 2 (fun _ _ => rfl) dL_law_669 ?_
  refine lw_cell (n := 1) (v := nI 1) hK hB 3 (fun _ _ => rfl) (fun _ _ => rfl) rfl (hin 1 (by decide)) rfl dL_law_670 dL_law_671 dL_law_672 dL_law_673 dL_law_674 ?_
  refine lw_cell (n := 2) (v := nI 2) hK hB 3 (fun _ _ => rfl) (fun _ _ => rfl) rfl (hin 2 (by decide)) rfl dL_law_675 dL_law_676 dL_law_677 dL_law_678 dL_law_679 ?_
  refine lw_cell (n := 3) (v := nI 3) hK hB 3 (fun _ _ => rfl) (fun _ _ => rfl) rfl (hin 3 (by decide)) rfl dL_law_680 dL_law_681 dL_law_682 dL_law_683 dL_law_684 ?_
  refine lw_callm hK hB (st1 := [aI (xs (i + nI 3).toNatClampNeg), aI (xs (i + nI 2).toNatClampNeg), aI (xs (i + nI 1).toNatClampNeg)]) (st2 := [aI v]) (r := some (aI v)) (v1 := [.int (xs (i + nI 3).toNatClampNeg), .int (xs (i + nI 2).toNatClampNeg), .int (xs (i + nI 1).toNatClampNeg)]) (v2 := [.int v]) (v3 := [.int v]) (c1 := cm) (s1 := sm) (rq_V (n := 3) (As := [aI (xs (i + nI 1).toNatClampNeg), aI (xs (i + nI 2).toNatClampNeg), aI (xs (i + nI 3).toNatClampNeg)]) hK (fw_rcvW hK fw_c7 hkm) (ct_X5_better hK.zk hm) (lw_V q1545 q1546 q1547 q102 q1548) (by decide +kernel) ⟨by omega, by omega⟩ rfl rfl (Nat.le_of_ble_eq_true rfl) dL_law_685) hzm (lw_okz rfl) (fun _ => rfl) (fun _ => rfl) (fun _ => rfl) ⟨by omega, by omega⟩ ?_
  refine lw_same (tgt := 1269) hK dL_law_688 (by decide) ?_
  exact kk L1 L2 _ _ hR1 (by omega) (by omega)
set_option maxHeartbeats 2000000 in
theorem lc_19 (hK : Ok K cL_law 4 "TugOfWarLaw" F Lo) (hZ : fw_isZ K) (hB : lw_B K b N xs) (h0 : lw_R0 RR) (hok : ∀ a1 a2 : Int32, lw_ok RR RQ (f_X0_swap 0 a1 a2) (f_X5_swap 0 a1 a2)) (hFL : 400 ≤ F ∧ 60000 ≤ Lo) (hR : RR Lx Lm) {i : Int32} (hin : lw_sc N i) (hroom : c0 + 4000 ≤ 603072 ∧ s0 + 40000 ≤ 7262314) (kk : ∀ L1 L2 c1 s1, RQ L1 L2 → c1 ≤ c0 + 4000 → s1 ≤ s0 + 40000 → LW K L1 L2 c1 s1 1269 (lvL b i) (fun _ _ => [])) : LW K Lx Lm c0 s0 693 (lvL b i) (fun _ _ => []) := by
  obtain ⟨v, L1, L2, c, s, cm, sm, hx, hm, hR1, hc, hs⟩ := hok (xs (i + nI 1).toNatClampNeg) (xs (i + nI 2).toNatClampNeg) Lx Lm hR
  obtain ⟨⟨hkx, hzx⟩, hkm, hzm⟩ := h0 Lx Lm hR
  refine lw_ax hK 1 (fun _ _ => rfl) dL_law_693 ?_
  refine lw_cell (n := 1) (v := nI 1) hK hB 3 (fun _ _ => rfl) (fun _ _ => rfl) rfl (hin 1 (by decide)) rfl dL_law_694 dL_law_695 dL_law_696 dL_law_697 dL_law_698 ?_
  refine lw_cell (n := 2) (v := nI 2) hK hB 3 (fun _ _ => rfl) (fun _ _ => rfl) rfl (hin 2 (by decide)) rfl dL_law_699 dL_law_700 dL_law_701 dL_law_702 dL_law_703 ?_
  refine lw_callx hK hB (st1 := [aI (xs (i + nI 2).toNatClampNeg), aI (xs (i + nI 1).toNatClampNeg)]) (st2 := []) (r := some (aI v)) (v1 := [.int (xs (i + nI 2).toNatClampNeg), .int (xs (i + nI 1).toNatClampNeg)]) (v2 := []) (v3 := [.int v]) (c1 := c) (s1 := s) (rq_V (n := 2) (As := [aI (xs (i + nI 1).toNatClampNeg), aI (xs (i + nI 2).toNatClampNeg)]) hK (fw_rcvW hK fw_c0 hkx) (fw_czx hZ (ct_X0_swap hx)) (lw_V q938 q939 q940 q94 q941) (by decide +kernel) ⟨by omega, by omega⟩ rfl rfl (Nat.le_of_ble_eq_true rfl) dL_law_704) hzx (lw_okz rfl) (fun _ => rfl) (fun _ => rfl) (fun _ => rfl) ⟨by omega, by omega⟩ ?_
  refine lw_am hK 2 (fun _ _ => rfl) dL_law_707 ?_
  refine lw_cell (n := 1) (v := nI 1) hK hB 3 (fun _ _ => rfl) (fun _ _ => rfl) rfl (hin 1 (by decide)) rfl dL_law_708 dL_law_709 dL_law_710 dL_law_711 dL_law_712 ?_
  refine lw_cell (n := 2) (v := nI 2) hK hB 3 (fun _ _ => rfl) (fun _ _ => rfl) rfl (hin 2 (by decide)) rfl dL_law_713 dL_law_714 dL_law_715 dL_law_716 dL_law_717 ?_
  refine lw_callm hK hB (st1 := [aI (xs (i + nI 2).toNatClampNeg), aI (xs (i + nI 1).toNatClampNeg)]) (st2 := [aI v]) (r := some (aI v)) (v1 := [.int (xs (i + nI 2).toNatClampNeg), .int (xs (i + nI 1).toNatClampNeg)]) (v2 := [.int v]) (v3 := [.int v]) (c1 := cm) (s1 := sm) (rq_V (n := 2) (As := [aI (xs (i + nI 1).toNatClampNeg), aI (xs (i + nI 2).toNatClampNeg)]) hK (fw_rcvW hK fw_c7 hkm) (ct_X5_swap hK.zk hm) (lw_V q1561 q1562 q1563 q102 q1564) (by decide +kernel) ⟨by omega, by omega⟩ rfl rfl (Nat.le_of_ble_eq_true rfl) dL_law_718) hzm (lw_okz rfl) (fun _ => rfl) (fun _ => rfl) (fun _ => rfl) ⟨by omega, by omega⟩ ?_
  refine lw_same (tgt := 1269) hK dL_law_721 (by decide) ?_
  exact kk L1 L2 _ _ hR1 (by omega) (by omega)
set_option maxHeartbeats 2000000 in
theorem lc_20 (hK : Ok K cL_law 4 "TugOfWarLaw" F Lo) (hZ : fw_isZ K) (hB : lw_B K b N xs) (h0 : lw_R0 RR) (hok : ∀ a1 a2 : Int32, lw_ok RR RQ (f_X0_out 0 a1 a2) (f_X5_out 0 a1 a2)) (hFL : 400 ≤ F ∧ 60000 ≤ Lo) (hR : RR Lx Lm) {i : Int32} (hin : lw_sc N i) (hroom : c0 + 4000 ≤ 603072 ∧ s0 + 40000 ≤ 7262314) (kk : ∀ L1 L2 c1 s1, RQ L1 L2 → c1 ≤ c0 + 4000 → s1 ≤ s0 + 40000 → LW K L1 L2 c1 s1 1269 (lvL b i) (fun _ _ => [])) : LW K Lx Lm c0 s0 726 (lvL b i) (fun _ _ => []) := by
  obtain ⟨v, L1, L2, c, s, cm, sm, hx, hm, hR1, hc, hs⟩ := hok (xs (i + nI 1).toNatClampNeg) (xs (i + nI 2).toNatClampNeg) Lx Lm hR
  obtain ⟨⟨hkx, hzx⟩, hkm, hzm⟩ := h0 Lx Lm hR
  refine lw_ax hK 1 (fun _ _ => rfl) dL_law_726 ?_
  refine lw_cell (n := 1) (v := nI 1) hK hB 3 (fun _ _ => rfl) (fun _ _ => rfl) rfl (hin 1 (by decide)) rfl dL_law_727 dL_law_728 dL_law_729 dL_law_730 dL_law_731 ?_
  refine lw_cell (n := 2) (v := nI 2) hK hB 3 (fun _ _ => rfl) (fun _ _ => rfl) rfl (hin 2 (by decide)) rfl dL_law_732 dL_law_733 dL_law_734 dL_law_735 dL_law_736 ?_
  refine lw_callx hK hB (st1 := [aI (xs (i + nI 2).toNatClampNeg), aI (xs (i + nI 1).toNatClampNeg)]) (st2 := []) (r := some (aI v)) (v1 := [.int (xs (i + nI 2).toNatClampNeg), .int (xs (i + nI 1).toNatClampNeg)]) (v2 := []) (v3 := [.int v]) (c1 := c) (s1 := s) (rq_V (n := 2) (As := [aI (xs (i + nI 1).toNatClampNeg), aI (xs (i + nI 2).toNatClampNeg)]) hK (fw_rcvW hK fw_c0 hkx) (fw_czx hZ (ct_X0_out hx)) (lw_V q946 q947 q948 q94 q949) (by decide +kernel) ⟨by omega, by omega⟩ rfl rfl (Nat.le_of_ble_eq_true rfl) dL_law_737) hzx (lw_okz rfl) (fun _ => rfl) (fun _ => rfl) (fun _ => rfl) ⟨by omega, by omega⟩ ?_
  refine lw_am hK 2 (fun _ _ => rfl) dL_law_740 ?_
  refine lw_cell (n := 1) (v := nI 1) hK hB 3 (fun _ _ => rfl) (fun _ _ => rfl) rfl (hin 1 (by decide)) rfl dL_law_741 dL_law_742 dL_law_743 dL_law_744 dL_law_745 ?_
  refine lw_cell (n := 2) (v := nI 2) hK hB 3 (fun _ _ => rfl) (fun _ _ => rfl) rfl (hin 2 (by decide)) rfl dL_law_746 dL_law_747 dL_law_748 dL_law_749 dL_law_750 ?_
  refine lw_callm hK hB (st1 := [aI (xs (i + nI 2).toNatClampNeg), aI (xs (i + nI 1).toNatClampNeg)]) (st2 := [aI v]) (r := some (aI v)) (v1 := [.int (xs (i + nI 2).toNatClampNeg), .int (xs (i + nI 1).toNatClampNeg)]) (v2 := [.int v]) (v3 := [.int v]) (c1 := cm) (s1 := sm) (rq_V (n := 2) (As := [aI (xs (i + nI 1).toNatClampNeg), aI (xs (i + nI 2).toNatClampNeg)]) hK (fw_rcvW hK fw_c7 hkm) (ct_X5_out hK.zk hm) (lw_V q1569 q1570 q1571 q102 q1572) (by decide +kernel) ⟨by omega, by omega⟩ rfl rfl (Nat.le_of_ble_eq_true rfl) dL_law_751) hzm (lw_okz rfl) (fun _ => rfl) (fun _ => rfl) (fun _ => rfl) ⟨by omega, by omega⟩ ?_
  refine lw_same (tgt := 1269) hK dL_law_754 (by decide) ?_
  exact kk L1 L2 _ _ hR1 (by omega) (by omega)
set_option maxHeartbeats 2000000 in
theorem lc_21 (hK : Ok K cL_law 4 "TugOfWarLaw" F Lo) (hZ : fw_isZ K) (hB : lw_B K b N xs) (h0 : lw_R0 RR) (hok : ∀ a1 : Int32, lw_ok RR RQ (f_X0_spare 0 a1) (f_X5_spare 0 a1)) (hFL : 400 ≤ F ∧ 60000 ≤ Lo) (hR : RR Lx Lm) {i : Int32} (hin : lw_sc N i) (hroom : c0 + 4000 ≤ 603072 ∧ s0 + 40000 ≤ 7262314) (kk : ∀ L1 L2 c1 s1, RQ L1 L2 → c1 ≤ c0 + 4000 → s1 ≤ s0 + 40000 → LW K L1 L2 c1 s1 1269 (lvL b i) (fun _ _ => [])) : LW K Lx Lm c0 s0 759 (lvL b i) (fun _ _ => []) := by
  obtain ⟨v, L1, L2, c, s, cm, sm, hx, hm, hR1, hc, hs⟩ := hok (xs (i + nI 1).toNatClampNeg) Lx Lm hR
  obtain ⟨⟨hkx, hzx⟩, hkm, hzm⟩ := h0 Lx Lm hR
  refine lw_ax hK 1 (fun _ _ => rfl) dL_law_759 ?_
  refine lw_cell (n := 1) (v := nI 1) hK hB 3 (fun _ _ => rfl) (fun _ _ => rfl) rfl (hin 1 (by decide)) rfl dL_law_760 dL_law_761 dL_law_762 dL_law_763 dL_law_764 ?_
  refine lw_callx hK hB (st1 := [aI (xs (i + nI 1).toNatClampNeg)]) (st2 := []) (r := some (aI v)) (v1 := [.int (xs (i + nI 1).toNatClampNeg)]) (v2 := []) (v3 := [.int v]) (c1 := c) (s1 := s) (rq_V (n := 1) (As := [aI (xs (i + nI 1).toNatClampNeg)]) hK (fw_rcvW hK fw_c0 hkx) (fw_czx hZ (ct_X0_spare hx)) (lw_V q954 q955 q956 q94 q957) (by decide +kernel) ⟨by omega, by omega⟩ rfl rfl (Nat.le_of_ble_eq_true rfl) dL_law_765) hzx (lw_okz rfl) (fun _ => rfl) (fun _ => rfl) (fun _ => rfl) ⟨by omega, by omega⟩ ?_
  refine lw_am hK 2 (fun _ _ => rfl) dL_law_768 ?_
  refine lw_cell (n := 1) (v := nI 1) hK hB 3 (fun _ _ => rfl) (fun _ _ => rfl) rfl (hin 1 (by decide)) rfl dL_law_769 dL_law_770 dL_law_771 dL_law_772 dL_law_773 ?_
  refine lw_callm hK hB (st1 := [aI (xs (i + nI 1).toNatClampNeg)]) (st2 := [aI v]) (r := some (aI v)) (v1 := [.int (xs (i + nI 1).toNatClampNeg)]) (v2 := [.int v]) (v3 := [.int v]) (c1 := cm) (s1 := sm) (rq_V (n := 1) (As := [aI (xs (i + nI 1).toNatClampNeg)]) hK (fw_rcvW hK fw_c7 hkm) (ct_X5_spare hK.zk hm) (lw_V q1577 q1578 q1579 q102 q1580) (by decide +kernel) ⟨by omega, by omega⟩ rfl rfl (Nat.le_of_ble_eq_true rfl) dL_law_774) hzm (lw_okz rfl) (fun _ => rfl) (fun _ => rfl) (fun _ => rfl) ⟨by omega, by omega⟩ ?_
  refine lw_same (tgt := 1269) hK dL_law_777 (by decide) ?_
  exact kk L1 L2 _ _ hR1 (by omega) (by omega)
set_option maxHeartbeats 2000000 in
theorem lc_22 (hK : Ok K cL_law 4 "TugOfWarLaw" F Lo) (hZ : fw_isZ K) (hB : lw_B K b N xs) (h0 : lw_R0 RR) (hok : ∀ a1 a2 : Int32, lw_ok RR RQ (f_X0_seen 0 a1 a2) (f_X5_seen 0 a1 a2)) (hFL : 400 ≤ F ∧ 60000 ≤ Lo) (hR : RR Lx Lm) {i : Int32} (hin : lw_sc N i) (hroom : c0 + 4000 ≤ 603072 ∧ s0 + 40000 ≤ 7262314) (kk : ∀ L1 L2 c1 s1, RQ L1 L2 → c1 ≤ c0 + 4000 → s1 ≤ s0 + 40000 → LW K L1 L2 c1 s1 1269 (lvL b i) (fun _ _ => [])) : LW K Lx Lm c0 s0 782 (lvL b i) (fun _ _ => []) := by
  obtain ⟨v, L1, L2, c, s, cm, sm, hx, hm, hR1, hc, hs⟩ := hok (xs (i + nI 1).toNatClampNeg) (xs (i + nI 2).toNatClampNeg) Lx Lm hR
  obtain ⟨⟨hkx, hzx⟩, hkm, hzm⟩ := h0 Lx Lm hR
  refine lw_ax hK 1 (fun _ _ => rfl) dL_law_782 ?_
  refine lw_cell (n := 1) (v := nI 1) hK hB 3 (fun _ _ => rfl) (fun _ _ => rfl) rfl (hin 1 (by decide)) rfl dL_law_783 dL_law_784 dL_law_785 dL_law_786 dL_law_787 ?_
  refine lw_cell (n := 2) (v := nI 2) hK hB 3 (fun _ _ => rfl) (fun _ _ => rfl) rfl (hin 2 (by decide)) rfl dL_law_788 dL_law_789 dL_law_790 dL_law_791 dL_law_792 ?_
  refine lw_callx hK hB (st1 := [aI (xs (i + nI 2).toNatClampNeg), aI (xs (i + nI 1).toNatClampNeg)]) (st2 := []) (r := some (aI v)) (v1 := [.int (xs (i + nI 2).toNatClampNeg), .int (xs (i + nI 1).toNatClampNeg)]) (v2 := []) (v3 := [.int v]) (c1 := c) (s1 := s) (rq_V (n := 2) (As := [aI (xs (i + nI 1).toNatClampNeg), aI (xs (i + nI 2).toNatClampNeg)]) hK (fw_rcvW hK fw_c0 hkx) (fw_czx hZ (ct_X0_seen hx)) (lw_V q967 q968 q969 q94 q970) (by decide +kernel) ⟨by omega, by omega⟩ rfl rfl (Nat.le_of_ble_eq_true rfl) dL_law_793) hzx (lw_okz rfl) (fun _ => rfl) (fun _ => rfl) (fun _ => rfl) ⟨by omega, by omega⟩ ?_
  refine lw_am hK 2 (fun _ _ => rfl) dL_law_796 ?_
  refine lw_cell (n := 1) (v := nI 1) hK hB 3 (fun _ _ => rfl) (fun _ _ => rfl) rfl (hin 1 (by decide)) rfl dL_law_797 dL_law_798 dL_law_799 dL_law_800 dL_law_801 ?_
  refine lw_cell (n := 2) (v := nI 2) hK hB 3 (fun _ _ => rfl) (fun _ _ => rfl) rfl (hin 2 (by decide)) rfl dL_law_802 dL_law_803 dL_law_804 dL_law_805 dL_law_806 ?_
  refine lw_callm hK hB (st1 := [aI (xs (i + nI 2).toNatClampNeg), aI (xs (i + nI 1).toNatClampNeg)]) (st2 := [aI v]) (r := some (aI v)) (v1 := [.int (xs (i + nI 2).toNatClampNeg), .int (xs (i + nI 1).toNatClampNeg)]) (v2 := [.int v]) (v3 := [.int v]) (c1 := cm) (s1 := sm) (rq_V (n := 2) (As := [aI (xs (i + nI 1).toNatClampNeg), aI (xs (i + nI 2).toNatClampNeg)]) hK (fw_rcvW hK fw_c7 hkm) (ct_X5_seen hK.zk hm) (lw_V q1593 q1594 q1595 q102 q1596) (by decide +kernel) ⟨by omega, by omega⟩ rfl rfl (Nat.le_of_ble_eq_true rfl) dL_law_807) hzm (lw_okz rfl) (fun _ => rfl) (fun _ => rfl) (fun _ => rfl) ⟨by omega, by omega⟩ ?_
  refine lw_same (tgt := 1269) hK dL_law_810 (by decide) ?_
  exact kk L1 L2 _ _ hR1 (by omega) (by omega)
set_option maxHeartbeats 2000000 in
theorem lc_23 (hK : Ok K cL_law 4 "TugOfWarLaw" F Lo) (hZ : fw_isZ K) (hB : lw_B K b N xs) (h0 : lw_R0 RR) (hok : lw_ok RR RQ (f_X0_forget 0) (f_X5_forget 0)) (hFL : 400 ≤ F ∧ 60000 ≤ Lo) (hR : RR Lx Lm) {i : Int32} (hin : lw_sc N i) (hroom : c0 + 4000 ≤ 603072 ∧ s0 + 40000 ≤ 7262314) (kk : ∀ L1 L2 c1 s1, RQ L1 L2 → c1 ≤ c0 + 4000 → s1 ≤ s0 + 40000 → LW K L1 L2 c1 s1 1269 (lvL b i) (fun _ _ => [])) : LW K Lx Lm c0 s0 815 (lvL b i) (fun _ _ => []) := by
  obtain ⟨v, L1, L2, c, s, cm, sm, hx, hm, hR1, hc, hs⟩ := hok Lx Lm hR
  obtain ⟨⟨hkx, hzx⟩, hkm, hzm⟩ := h0 Lx Lm hR
  refine lw_ax hK 1 (fun _ _ => rfl) dL_law_815 ?_
  refine lw_callx hK hB (st1 := []) (st2 := []) (r := some (aI v)) (v1 := []) (v2 := []) (v3 := [.int v]) (c1 := c) (s1 := s) (rq_V (n := 0) (As := []) hK (fw_rcvW hK fw_c0 hkx) (fw_czx hZ (ct_X0_forget hx)) (lw_V q972 q973 q974 q94 q975) (by decide +kernel) ⟨by omega, by omega⟩ rfl rfl (Nat.le_of_ble_eq_true rfl) dL_law_816) hzx (lw_okz rfl) (fun _ => rfl) (fun _ => rfl) (fun _ => rfl) ⟨by omega, by omega⟩ ?_
  refine lw_am hK 2 (fun _ _ => rfl) dL_law_819 ?_
  refine lw_callm hK hB (st1 := []) (st2 := [aI v]) (r := some (aI v)) (v1 := []) (v2 := [.int v]) (v3 := [.int v]) (c1 := cm) (s1 := sm) (rq_V (n := 0) (As := []) hK (fw_rcvW hK fw_c7 hkm) (ct_X5_forget hK.zk hm) (lw_V q1597 q1598 q1599 q102 q1600) (by decide +kernel) ⟨by omega, by omega⟩ rfl rfl (Nat.le_of_ble_eq_true rfl) dL_law_820) hzm (lw_okz rfl) (fun _ => rfl) (fun _ => rfl) (fun _ => rfl) ⟨by omega, by omega⟩ ?_
  refine lw_same (tgt := 1269) hK dL_law_823 (by decide) ?_
  exact kk L1 L2 _ _ hR1 (by omega) (by omega)
set_option maxHeartbeats 2000000 in
theorem lc_24 (hK : Ok K cL_law 4 "TugOfWarLaw" F Lo) (hZ : fw_isZ K) (hB : lw_B K b N xs) (h0 : lw_R0 RR) (hok : lw_ok RR RQ (f_X0_never 0) (f_X5_never 0)) (hFL : 400 ≤ F ∧ 60000 ≤ Lo) (hR : RR Lx Lm) {i : Int32} (hin : lw_sc N i) (hroom : c0 + 4000 ≤ 603072 ∧ s0 + 40000 ≤ 7262314) (kk : ∀ L1 L2 c1 s1, RQ L1 L2 → c1 ≤ c0 + 4000 → s1 ≤ s0 + 40000 → LW K L1 L2 c1 s1 1269 (lvL b i) (fun _ _ => [])) : LW K Lx Lm c0 s0 828 (lvL b i) (fun _ _ => []) := by
  obtain ⟨v, L1, L2, c, s, cm, sm, hx, hm, hR1, hc, hs⟩ := hok Lx Lm hR
  obtain ⟨⟨hkx, hzx⟩, hkm, hzm⟩ := h0 Lx Lm hR
  refine lw_ax hK 1 (fun _ _ => rfl) dL_law_828 ?_
  refine lw_callx hK hB (st1 := []) (st2 := []) (r := some (aI v)) (v1 := []) (v2 := []) (v3 := [.int v]) (c1 := c) (s1 := s) (rq_V (n := 0) (As := []) hK (fw_rcvW hK fw_c0 hkx) (fw_czx hZ (ct_X0_never hx)) (lw_V q977 q978 q979 q94 q980) (by decide +kernel) ⟨by omega, by omega⟩ rfl rfl (Nat.le_of_ble_eq_true rfl) dL_law_829) hzx (lw_okz rfl) (fun _ => rfl) (fun _ => rfl) (fun _ => rfl) ⟨by omega, by omega⟩ ?_
  refine lw_am hK 2 (fun _ _ => rfl) dL_law_832 ?_
  refine lw_callm hK hB (st1 := []) (st2 := [aI v]) (r := some (aI v)) (v1 := []) (v2 := [.int v]) (v3 := [.int v]) (c1 := cm) (s1 := sm) (rq_V (n := 0) (As := []) hK (fw_rcvW hK fw_c7 hkm) (ct_X5_never hK.zk hm) (lw_V q1601 q1602 q1603 q102 q1604) (by decide +kernel) ⟨by omega, by omega⟩ rfl rfl (Nat.le_of_ble_eq_true rfl) dL_law_833) hzm (lw_okz rfl) (fun _ => rfl) (fun _ => rfl) (fun _ => rfl) ⟨by omega, by omega⟩ ?_
  refine lw_same (tgt := 1269) hK dL_law_836 (by decide) ?_
  exact kk L1 L2 _ _ hR1 (by omega) (by omega)
set_option maxHeartbeats 2000000 in
theorem lc_25 (hK : Ok K cL_law 4 "TugOfWarLaw" F Lo) (hZ : fw_isZ K) (hB : lw_B K b N xs) (h0 : lw_R0 RR) (hok : ∀ a1 a2 : Int32, lw_ok RR RQ (f_X0_was 0 a1 a2) (f_X5_was 0 a1 a2)) (hFL : 400 ≤ F ∧ 60000 ≤ Lo) (hR : RR Lx Lm) {i : Int32} (hin : lw_sc N i) (hroom : c0 + 4000 ≤ 603072 ∧ s0 + 40000 ≤ 7262314) (kk : ∀ L1 L2 c1 s1, RQ L1 L2 → c1 ≤ c0 + 4000 → s1 ≤ s0 + 40000 → LW K L1 L2 c1 s1 1269 (lvL b i) (fun _ _ => [])) : LW K Lx Lm c0 s0 841 (lvL b i) (fun _ _ => []) := by
  obtain ⟨v, L1, L2, c, s, cm, sm, hx, hm, hR1, hc, hs⟩ := hok (xs (i + nI 1).toNatClampNeg) (xs (i + nI 2).toNatClampNeg) Lx Lm hR
  obtain ⟨⟨hkx, hzx⟩, hkm, hzm⟩ := h0 Lx Lm hR
  refine lw_ax hK 1 (fun _ _ => rfl) dL_law_841 ?_
  refine lw_cell (n := 1) (v := nI 1) hK hB 3 (fun _ _ => rfl) (fun _ _ => rfl) rfl (hin 1 (by decide)) rfl dL_law_842 dL_law_843 dL_law_844 dL_law_845 dL_law_846 ?_
  refine lw_cell (n := 2) (v := nI 2) hK hB 3 (fun _ _ => rfl) (fun _ _ => rfl) rfl (hin 2 (by decide)) rfl dL_law_847 dL_law_848 dL_law_849 dL_law_850 dL_law_851 ?_
  refine lw_callx hK hB (st1 := [aI (xs (i + nI 2).toNatClampNeg), aI (xs (i + nI 1).toNatClampNeg)]) (st2 := []) (r := some (aI v)) (v1 := [.int (xs (i + nI 2).toNatClampNeg), .int (xs (i + nI 1).toNatClampNeg)]) (v2 := []) (v3 := [.int v]) (c1 := c) (s1 := s) (rq_V (n := 2) (As := [aI (xs (i + nI 1).toNatClampNeg), aI (xs (i + nI 2).toNatClampNeg)]) hK (fw_rcvW hK fw_c0 hkx) (fw_czx hZ (ct_X0_was hx)) (lw_V q989 q990 q991 q94 q992) (by decide +kernel) ⟨by omega, by omega⟩ rfl rfl (Nat.le_of_ble_eq_true rfl) dL_law_852) hzx (lw_okz rfl) (fun _ => rfl) (fun _ => rfl) (fun _ => rfl) ⟨by omega, by omega⟩ ?_
  refine lw_am hK 2 (fun _ _ => rfl) dL_law_855 ?_
  refine lw_cell (n := 1) (v := nI 1) hK hB 3 (fun _ _ => rfl) (fun _ _ => rfl) rfl (hin 1 (by decide)) rfl dL_law_856 dL_law_857 dL_law_858 dL_law_859 dL_law_860 ?_
  refine lw_cell (n := 2) (v := nI 2) hK hB 3 (fun _ _ => rfl) (fun _ _ => rfl) rfl (hin 2 (by decide)) rfl dL_law_861 dL_law_862 dL_law_863 dL_law_864 dL_law_865 ?_
  refine lw_callm hK hB (st1 := [aI (xs (i + nI 2).toNatClampNeg), aI (xs (i + nI 1).toNatClampNeg)]) (st2 := [aI v]) (r := some (aI v)) (v1 := [.int (xs (i + nI 2).toNatClampNeg), .int (xs (i + nI 1).toNatClampNeg)]) (v2 := [.int v]) (v3 := [.int v]) (c1 := cm) (s1 := sm) (rq_V (n := 2) (As := [aI (xs (i + nI 1).toNatClampNeg), aI (xs (i + nI 2).toNatClampNeg)]) hK (fw_rcvW hK fw_c7 hkm) (ct_X5_was hK.zk hm) (lw_V q1613 q1614 q1615 q102 q1616) (by decide +kernel) ⟨by omega, by omega⟩ rfl rfl (Nat.le_of_ble_eq_true rfl) dL_law_866) hzm (lw_okz rfl) (fun _ => rfl) (fun _ => rfl) (fun _ => rfl) ⟨by omega, by omega⟩ ?_
  refine lw_same (tgt := 1269) hK dL_law_869 (by decide) ?_
  exact kk L1 L2 _ _ hR1 (by omega) (by omega)
set_option maxHeartbeats 2000000 in
theorem lc_26 (hK : Ok K cL_law 4 "TugOfWarLaw" F Lo) (hZ : fw_isZ K) (hB : lw_B K b N xs) (h0 : lw_R0 RR) (hok : ∀ a1 : Int32, lw_ok RR RQ (f_X0_ask 0 a1) (f_X5_ask 0 a1)) (hFL : 400 ≤ F ∧ 60000 ≤ Lo) (hR : RR Lx Lm) {i : Int32} (hin : lw_sc N i) (hroom : c0 + 4000 ≤ 603072 ∧ s0 + 40000 ≤ 7262314) (kk : ∀ L1 L2 c1 s1, RQ L1 L2 → c1 ≤ c0 + 4000 → s1 ≤ s0 + 40000 → LW K L1 L2 c1 s1 1269 (lvL b i) (fun _ _ => [])) : LW K Lx Lm c0 s0 874 (lvL b i) (fun _ _ => []) := by
  obtain ⟨v, L1, L2, c, s, cm, sm, hx, hm, hR1, hc, hs⟩ := hok (xs (i + nI 1).toNatClampNeg) Lx Lm hR
  obtain ⟨⟨hkx, hzx⟩, hkm, hzm⟩ := h0 Lx Lm hR
  refine lw_ax hK 1 (fun _ _ => rfl) dL_law_874 ?_
  refine lw_cell (n := 1) (v := nI 1) hK hB 3 (fun _ _ => rfl) (fun _ _ => rfl) rfl (hin 1 (by decide)) rfl dL_law_875 dL_law_876 dL_law_877 dL_law_878 dL_law_879 ?_
  refine lw_callx hK hB (st1 := [aI (xs (i + nI 1).toNatClampNeg)]) (st2 := []) (r := some (aI v)) (v1 := [.int (xs (i + nI 1).toNatClampNeg)]) (v2 := []) (v3 := [.int v]) (c1 := c) (s1 := s) (rq_V (n := 1) (As := [aI (xs (i + nI 1).toNatClampNeg)]) hK (fw_rcvW hK fw_c0 hkx) (fw_czx hZ (ct_X0_ask hx)) (lw_V q1006 q1007 q1008 q94 q1009) (by decide +kernel) ⟨by omega, by omega⟩ rfl rfl (Nat.le_of_ble_eq_true rfl) dL_law_880) hzx (lw_okz rfl) (fun _ => rfl) (fun _ => rfl) (fun _ => rfl) ⟨by omega, by omega⟩ ?_
  refine lw_am hK 2 (fun _ _ => rfl) dL_law_883 ?_
  refine lw_cell (n := 1) (v := nI 1) hK hB 3 (fun _ _ => rfl) (fun _ _ => rfl) rfl (hin 1 (by decide)) rfl dL_law_884 dL_law_885 dL_law_886 dL_law_887 dL_law_888 ?_
  refine lw_callm hK hB (st1 := [aI (xs (i + nI 1).toNatClampNeg)]) (st2 := [aI v]) (r := some (aI v)) (v1 := [.int (xs (i + nI 1).toNatClampNeg)]) (v2 := [.int v]) (v3 := [.int v]) (c1 := cm) (s1 := sm) (rq_V (n := 1) (As := [aI (xs (i + nI 1).toNatClampNeg)]) hK (fw_rcvW hK fw_c7 hkm) (ct_X5_ask hK.zk hm) (lw_V q1625 q1626 q1627 q102 q1628) (by decide +kernel) ⟨by omega, by omega⟩ rfl rfl (Nat.le_of_ble_eq_true rfl) dL_law_889) hzm (lw_okz rfl) (fun _ => rfl) (fun _ => rfl) (fun _ => rfl) ⟨by omega, by omega⟩ ?_
  refine lw_same (tgt := 1269) hK dL_law_892 (by decide) ?_
  exact kk L1 L2 _ _ hR1 (by omega) (by omega)
set_option maxHeartbeats 2000000 in
theorem lc_27 (hK : Ok K cL_law 4 "TugOfWarLaw" F Lo) (hZ : fw_isZ K) (hB : lw_B K b N xs) (h0 : lw_R0 RR) (hok : ∀ a1 a2 a3 : Int32, lw_ok RR RQ (f_X0_chance 0 a1 a2 a3) (f_X5_chance 0 a1 a2 a3)) (hFL : 400 ≤ F ∧ 60000 ≤ Lo) (hR : RR Lx Lm) {i : Int32} (hin : lw_sc N i) (hroom : c0 + 4000 ≤ 603072 ∧ s0 + 40000 ≤ 7262314) (kk : ∀ L1 L2 c1 s1, RQ L1 L2 → c1 ≤ c0 + 4000 → s1 ≤ s0 + 40000 → LW K L1 L2 c1 s1 1269 (lvL b i) (fun _ _ => [])) : LW K Lx Lm c0 s0 897 (lvL b i) (fun _ _ => []) := by
  obtain ⟨v, L1, L2, c, s, cm, sm, hx, hm, hR1, hc, hs⟩ := hok (xs (i + nI 1).toNatClampNeg) (xs (i + nI 2).toNatClampNeg) (xs (i + nI 3).toNatClampNeg) Lx Lm hR
  obtain ⟨⟨hkx, hzx⟩, hkm, hzm⟩ := h0 Lx Lm hR
  refine lw_ax hK 1 (fun _ _ => rfl) dL_law_897 ?_
  refine lw_cell (n := 1) (v := nI 1) hK hB 3 (fun _ _ => rfl) (fun _ _ => rfl) rfl (hin 1 (by decide)) rfl dL_law_898 dL_law_899 dL_law_900 dL_law_901 dL_law_902 ?_
  refine lw_cell (n := 2) (v := nI 2) hK hB 3 (fun _ _ => rfl) (fun _ _ => rfl) rfl (hin 2 (by decide)) rfl dL_law_903 dL_law_904 dL_law_905 dL_law_906 dL_law_907 ?_
  refine lw_cell (n := 3) (v := nI 3) hK hB 3 (fun _ _ => rfl) (fun _ _ => rfl) rfl (hin 3 (by decide)) rfl dL_law_908 dL_law_909 dL_law_910 dL_law_911 dL_law_912 ?_
  refine lw_callx hK hB (st1 := [aI (xs (i + nI 3).toNatClampNeg), aI (xs (i + nI 2).toNatClampNeg), aI (xs (i + nI 1).toNatClampNeg)]) (st2 := []) (r := some (aL v)) (v1 := [.int (xs (i + nI 3).toNatClampNeg), .int (xs (i + nI 2).toNatClampNeg), .int (xs (i + nI 1).toNatClampNeg)]) (v2 := []) (v3 := [.long v]) (c1 := c) (s1 := s) (rq_V (n := 3) (As := [aI (xs (i + nI 1).toNatClampNeg), aI (xs (i + nI 2).toNatClampNeg), aI (xs (i + nI 3).toNatClampNeg)]) hK (fw_rcvW hK fw_c0 hkx) (fw_czx hZ (ct_X0_chance hx)) (lw_V q1018 q1019 q1020 q94 q1021) (by decide +kernel) ⟨by omega, by omega⟩ rfl rfl (Nat.le_of_ble_eq_true rfl) dL_law_913) hzx (lw_okz rfl) (fun _ => rfl) (fun _ => rfl) (fun _ => rfl) ⟨by omega, by omega⟩ ?_
  refine lw_am hK 2 (fun _ _ => rfl) dL_law_916 ?_
  refine lw_cell (n := 1) (v := nI 1) hK hB 3 (fun _ _ => rfl) (fun _ _ => rfl) rfl (hin 1 (by decide)) rfl dL_law_917 dL_law_918 dL_law_919 dL_law_920 dL_law_921 ?_
  refine lw_cell (n := 2) (v := nI 2) hK hB 3 (fun _ _ => rfl) (fun _ _ => rfl) rfl (hin 2 (by decide)) rfl dL_law_922 dL_law_923 dL_law_924 dL_law_925 dL_law_926 ?_
  refine lw_cell (n := 3) (v := nI 3) hK hB 3 (fun _ _ => rfl) (fun _ _ => rfl) rfl (hin 3 (by decide)) rfl dL_law_927 dL_law_928 dL_law_929 dL_law_930 dL_law_931 ?_
  refine lw_callm hK hB (st1 := [aI (xs (i + nI 3).toNatClampNeg), aI (xs (i + nI 2).toNatClampNeg), aI (xs (i + nI 1).toNatClampNeg)]) (st2 := [aL v]) (r := some (aL v)) (v1 := [.int (xs (i + nI 3).toNatClampNeg), .int (xs (i + nI 2).toNatClampNeg), .int (xs (i + nI 1).toNatClampNeg)]) (v2 := [.long v]) (v3 := [.long v]) (c1 := cm) (s1 := sm) (rq_V (n := 3) (As := [aI (xs (i + nI 1).toNatClampNeg), aI (xs (i + nI 2).toNatClampNeg), aI (xs (i + nI 3).toNatClampNeg)]) hK (fw_rcvW hK fw_c7 hkm) (ct_X5_chance hK.zk hm) (lw_V q1633 q1634 q1635 q102 q1636) (by decide +kernel) ⟨by omega, by omega⟩ rfl rfl (Nat.le_of_ble_eq_true rfl) dL_law_932) hzm (lw_okz rfl) (fun _ => rfl) (fun _ => rfl) (fun _ => rfl) ⟨by omega, by omega⟩ ?_
  refine lw_sameL (tgt := 1269) hK dL_law_935 dL_law_936 (by decide) ?_
  exact kk L1 L2 _ _ hR1 (by omega) (by omega)
set_option maxHeartbeats 2000000 in
theorem lc_28 (hK : Ok K cL_law 4 "TugOfWarLaw" F Lo) (hZ : fw_isZ K) (hB : lw_B K b N xs) (h0 : lw_R0 RR) (hok : ∀ a1 a2 a3 : Int32, lw_ok RR RQ (f_X0_years 0 a1 a2 a3) (f_X5_years 0 a1 a2 a3)) (hFL : 400 ≤ F ∧ 60000 ≤ Lo) (hR : RR Lx Lm) {i : Int32} (hin : lw_sc N i) (hroom : c0 + 4000 ≤ 603072 ∧ s0 + 40000 ≤ 7262314) (kk : ∀ L1 L2 c1 s1, RQ L1 L2 → c1 ≤ c0 + 4000 → s1 ≤ s0 + 40000 → LW K L1 L2 c1 s1 1269 (lvL b i) (fun _ _ => [])) : LW K Lx Lm c0 s0 941 (lvL b i) (fun _ _ => []) := by
  obtain ⟨v, L1, L2, c, s, cm, sm, hx, hm, hR1, hc, hs⟩ := hok (xs (i + nI 1).toNatClampNeg) (xs (i + nI 2).toNatClampNeg) (xs (i + nI 3).toNatClampNeg) Lx Lm hR
  obtain ⟨⟨hkx, hzx⟩, hkm, hzm⟩ := h0 Lx Lm hR
  refine lw_ax hK 1 (fun _ _ => rfl) dL_law_941 ?_
  refine lw_cell (n := 1) (v := nI 1) hK hB 3 (fun _ _ => rfl) (fun _ _ => rfl) rfl (hin 1 (by decide)) rfl dL_law_942 dL_law_943 dL_law_944 dL_law_945 dL_law_946 ?_
  refine lw_cell (n := 2) (v := nI 2) hK hB 3 (fun _ _ => rfl) (fun _ _ => rfl) rfl (hin 2 (by decide)) rfl dL_law_947 dL_law_948 dL_law_949 dL_law_950 dL_law_951 ?_
  refine lw_cell (n := 3) (v := nI 3) hK hB 3 (fun _ _ => rfl) (fun _ _ => rfl) rfl (hin 3 (by decide)) rfl dL_law_952 dL_law_953 dL_law_954 dL_law_955 dL_law_956 ?_
  refine lw_callx hK hB (st1 := [aI (xs (i + nI 3).toNatClampNeg), aI (xs (i + nI 2).toNatClampNeg), aI (xs (i + nI 1).toNatClampNeg)]) (st2 := []) (r := some (aI v)) (v1 := [.int (xs (i + nI 3).toNatClampNeg), .int (xs (i + nI 2).toNatClampNeg), .int (xs (i + nI 1).toNatClampNeg)]) (v2 := []) (v3 := [.int v]) (c1 := c) (s1 := s) (rq_V (n := 3) (As := [aI (xs (i + nI 1).toNatClampNeg), aI (xs (i + nI 2).toNatClampNeg), aI (xs (i + nI 3).toNatClampNeg)]) hK (fw_rcvW hK fw_c0 hkx) (fw_czx hZ (ct_X0_years hx)) (lw_V q1037 q1038 q1039 q94 q1040) (by decide +kernel) ⟨by omega, by omega⟩ rfl rfl (Nat.le_of_ble_eq_true rfl) dL_law_957) hzx (lw_okz rfl) (fun _ => rfl) (fun _ => rfl) (fun _ => rfl) ⟨by omega, by omega⟩ ?_
  refine lw_am hK 2 (fun _ _ => rfl) dL_law_960 ?_
  refine lw_cell (n := 1) (v := nI 1) hK hB 3 (fun _ _ => rfl) (fun _ _ => rfl) rfl (hin 1 (by decide)) rfl dL_law_961 dL_law_962 dL_law_963 dL_law_964 dL_law_965 ?_
  refine lw_cell (n := 2) (v := nI 2) hK hB 3 (fun _ _ => rfl) (fun _ _ => rfl) rfl (hin 2 (by decide)) rfl dL_law_966 dL_law_967 dL_law_968 dL_law_969 dL_law_970 ?_
  refine lw_cell (n := 3) (v := nI 3) hK hB 3 (fun _ _ => rfl) (fun _ _ => rfl) rfl (hin 3 (by decide)) rfl dL_law_971 dL_law_972 dL_law_973 dL_law_974 dL_law_975 ?_
  refine lw_callm hK hB (st1 := [aI (xs (i + nI 3).toNatClampNeg), aI (xs (i + nI 2).toNatClampNeg), aI (xs (i + nI 1).toNatClampNeg)]) (st2 := [aI v]) (r := some (aI v)) (v1 := [.int (xs (i + nI 3).toNatClampNeg), .int (xs (i + nI 2).toNatClampNeg), .int (xs (i + nI 1).toNatClampNeg)]) (v2 := [.int v]) (v3 := [.int v]) (c1 := cm) (s1 := sm) (rq_V (n := 3) (As := [aI (xs (i + nI 1).toNatClampNeg), aI (xs (i + nI 2).toNatClampNeg), aI (xs (i + nI 3).toNatClampNeg)]) hK (fw_rcvW hK fw_c7 hkm) (ct_X5_years hK.zk hm) (lw_V q1648 q1649 q1650 q102 q1651) (by decide +kernel) ⟨by omega, by omega⟩ rfl rfl (Nat.le_of_ble_eq_true rfl) dL_law_976) hzm (lw_okz rfl) (fun _ => rfl) (fun _ => rfl) (fun _ => rfl) ⟨by omega, by omega⟩ ?_
  refine lw_same (tgt := 1269) hK dL_law_979 (by decide) ?_
  exact kk L1 L2 _ _ hR1 (by omega) (by omega)
set_option maxHeartbeats 2000000 in
theorem lc_29 (hK : Ok K cL_law 4 "TugOfWarLaw" F Lo) (hZ : fw_isZ K) (hB : lw_B K b N xs) (h0 : lw_R0 RR) (hok : ∀ a1 a2 a3 : Int32, lw_ok RR RQ (f_X0_sheet 0 a1 a2 a3) (f_X5_sheet 0 a1 a2 a3)) (hFL : 400 ≤ F ∧ 60000 ≤ Lo) (hR : RR Lx Lm) {i : Int32} (hin : lw_sc N i) (hroom : c0 + 4000 ≤ 603072 ∧ s0 + 40000 ≤ 7262314) (kk : ∀ L1 L2 c1 s1, RQ L1 L2 → c1 ≤ c0 + 4000 → s1 ≤ s0 + 40000 → LW K L1 L2 c1 s1 1269 (lvL b i) (fun _ _ => [])) : LW K Lx Lm c0 s0 984 (lvL b i) (fun _ _ => []) := by
  obtain ⟨v, L1, L2, c, s, cm, sm, hx, hm, hR1, hc, hs⟩ := hok (xs (i + nI 1).toNatClampNeg) (xs (i + nI 2).toNatClampNeg) (xs (i + nI 3).toNatClampNeg) Lx Lm hR
  obtain ⟨⟨hkx, hzx⟩, hkm, hzm⟩ := h0 Lx Lm hR
  refine lw_ax hK 1 (fun _ _ => rfl) dL_law_984 ?_
  refine lw_cell (n := 1) (v := nI 1) hK hB 3 (fun _ _ => rfl) (fun _ _ => rfl) rfl (hin 1 (by decide)) rfl dL_law_985 dL_law_986 dL_law_987 dL_law_988 dL_law_989 ?_
  refine lw_cell (n := 2) (v := nI 2) hK hB 3 (fun _ _ => rfl) (fun _ _ => rfl) rfl (hin 2 (by decide)) rfl dL_law_990 dL_law_991 dL_law_992 dL_law_993 dL_law_994 ?_
  refine lw_cell (n := 3) (v := nI 3) hK hB 3 (fun _ _ => rfl) (fun _ _ => rfl) rfl (hin 3 (by decide)) rfl dL_law_995 dL_law_996 dL_law_997 dL_law_998 dL_law_999 ?_
  refine lw_callx hK hB (st1 := [aI (xs (i + nI 3).toNatClampNeg), aI (xs (i + nI 2).toNatClampNeg), aI (xs (i + nI 1).toNatClampNeg)]) (st2 := []) (r := some (aI v)) (v1 := [.int (xs (i + nI 3).toNatClampNeg), .int (xs (i + nI 2).toNatClampNeg), .int (xs (i + nI 1).toNatClampNeg)]) (v2 := []) (v3 := [.int v]) (c1 := c) (s1 := s) (rq_VW (n := 3) (As := [aI (xs (i + nI 1).toNatClampNeg), aI (xs (i + nI 2).toNatClampNeg), aI (xs (i + nI 3).toNatClampNeg)]) hK (fw_rcvW hK fw_c0 hkx) (fw_czx hZ (ct_X0_sheet hx)) (lw_VW q1050 q1051 q1052 q94 q1053) (by decide +kernel) ⟨by omega, by omega⟩ rfl rfl (Nat.le_of_ble_eq_true rfl) dL_law_1000) hzx (lw_okz rfl) (fun _ => rfl) (fun _ => rfl) (fun _ => rfl) ⟨by omega, by omega⟩ ?_
  refine lw_am hK 2 (fun _ _ => rfl) dL_law_1003 ?_
  refine lw_cell (n := 1) (v := nI 1) hK hB 3 (fun _ _ => rfl) (fun _ _ => rfl) rfl (hin 1 (by decide)) rfl dL_law_1004 dL_law_1005 dL_law_1006 dL_law_1007 dL_law_1008 ?_
  refine lw_cell (n := 2) (v := nI 2) hK hB 3 (fun _ _ => rfl) (fun _ _ => rfl) rfl (hin 2 (by decide)) rfl dL_law_1009 dL_law_1010 dL_law_1011 dL_law_1012 dL_law_1013 ?_
  refine lw_cell (n := 3) (v := nI 3) hK hB 3 (fun _ _ => rfl) (fun _ _ => rfl) rfl (hin 3 (by decide)) rfl dL_law_1014 dL_law_1015 dL_law_1016 dL_law_1017 dL_law_1018 ?_
  refine lw_callm hK hB (st1 := [aI (xs (i + nI 3).toNatClampNeg), aI (xs (i + nI 2).toNatClampNeg), aI (xs (i + nI 1).toNatClampNeg)]) (st2 := [aI v]) (r := some (aI v)) (v1 := [.int (xs (i + nI 3).toNatClampNeg), .int (xs (i + nI 2).toNatClampNeg), .int (xs (i + nI 1).toNatClampNeg)]) (v2 := [.int v]) (v3 := [.int v]) (c1 := cm) (s1 := sm) (rq_V (n := 3) (As := [aI (xs (i + nI 1).toNatClampNeg), aI (xs (i + nI 2).toNatClampNeg), aI (xs (i + nI 3).toNatClampNeg)]) hK (fw_rcvW hK fw_c7 hkm) (ct_X5_sheet hK.zk hm) (lw_V q1657 q1658 q1659 q102 q1660) (by decide +kernel) ⟨by omega, by omega⟩ rfl rfl (Nat.le_of_ble_eq_true rfl) dL_law_1019) hzm (lw_okz rfl) (fun _ => rfl) (fun _ => rfl) (fun _ => rfl) ⟨by omega, by omega⟩ ?_
  refine lw_same (tgt := 1269) hK dL_law_1022 (by decide) ?_
  exact kk L1 L2 _ _ hR1 (by omega) (by omega)
set_option maxHeartbeats 2000000 in
theorem lc_30 (hK : Ok K cL_law 4 "TugOfWarLaw" F Lo) (hZ : fw_isZ K) (hB : lw_B K b N xs) (h0 : lw_R0 RR) (hok : ∀ a1 : Int32, lw_ok RR RQ (f_X0_lose 0 a1) (f_X5_lose 0 a1)) (hFL : 400 ≤ F ∧ 60000 ≤ Lo) (hR : RR Lx Lm) {i : Int32} (hin : lw_sc N i) (hroom : c0 + 4000 ≤ 603072 ∧ s0 + 40000 ≤ 7262314) (kk : ∀ L1 L2 c1 s1, RQ L1 L2 → c1 ≤ c0 + 4000 → s1 ≤ s0 + 40000 → LW K L1 L2 c1 s1 1269 (lvL b i) (fun _ _ => [])) : LW K Lx Lm c0 s0 1027 (lvL b i) (fun _ _ => []) := by
  obtain ⟨v, L1, L2, c, s, cm, sm, hx, hm, hR1, hc, hs⟩ := hok (xs (i + nI 1).toNatClampNeg) Lx Lm hR
  obtain ⟨⟨hkx, hzx⟩, hkm, hzm⟩ := h0 Lx Lm hR
  refine lw_ax hK 1 (fun _ _ => rfl) dL_law_1027 ?_
  refine lw_cell (n := 1) (v := nI 1) hK hB 3 (fun _ _ => rfl) (fun _ _ => rfl) rfl (hin 1 (by decide)) rfl dL_law_1028 dL_law_1029 dL_law_1030 dL_law_1031 dL_law_1032 ?_
  refine lw_callx hK hB (st1 := [aI (xs (i + nI 1).toNatClampNeg)]) (st2 := []) (r := some (aI v)) (v1 := [.int (xs (i + nI 1).toNatClampNeg)]) (v2 := []) (v3 := [.int v]) (c1 := c) (s1 := s) (rq_V (n := 1) (As := [aI (xs (i + nI 1).toNatClampNeg)]) hK (fw_rcvW hK fw_c0 hkx) (fw_czx hZ (ct_X0_lose hx)) (lw_V q1087 q1088 q1089 q94 q1090) (by decide +kernel) ⟨by omega, by omega⟩ rfl rfl (Nat.le_of_ble_eq_true rfl) dL_law_1033) hzx (lw_okz rfl) (fun _ => rfl) (fun _ => rfl) (fun _ => rfl) ⟨by omega, by omega⟩ ?_
  refine lw_am hK 2 (fun _ _ => rfl) dL_law_1036 ?_
  refine lw_cell (n := 1) (v := nI 1) hK hB 3 (fun _ _ => rfl) (fun _ _ => rfl) rfl (hin 1 (by decide)) rfl dL_law_1037 dL_law_1038 dL_law_1039 dL_law_1040 dL_law_1041 ?_
  refine lw_callm hK hB (st1 := [aI (xs (i + nI 1).toNatClampNeg)]) (st2 := [aI v]) (r := some (aI v)) (v1 := [.int (xs (i + nI 1).toNatClampNeg)]) (v2 := [.int v]) (v3 := [.int v]) (c1 := cm) (s1 := sm) (rq_V (n := 1) (As := [aI (xs (i + nI 1).toNatClampNeg)]) hK (fw_rcvW hK fw_c7 hkm) (ct_X5_lose hK.zk hm) (lw_V q1661 q1662 q1663 q102 q1664) (by decide +kernel) ⟨by omega, by omega⟩ rfl rfl (Nat.le_of_ble_eq_true rfl) dL_law_1042) hzm (lw_okz rfl) (fun _ => rfl) (fun _ => rfl) (fun _ => rfl) ⟨by omega, by omega⟩ ?_
  refine lw_same (tgt := 1269) hK dL_law_1045 (by decide) ?_
  exact kk L1 L2 _ _ hR1 (by omega) (by omega)
set_option maxHeartbeats 2000000 in
theorem lc_31 (hK : Ok K cL_law 4 "TugOfWarLaw" F Lo) (hZ : fw_isZ K) (hB : lw_B K b N xs) (h0 : lw_R0 RR) (hok : ∀ a1 a2 a3 a4 : Int32, lw_ok RR RQ (f_X0_put 0 a1 a2 a3 a4) (f_X5_put 0 a1 a2 a3 a4)) (hFL : 400 ≤ F ∧ 60000 ≤ Lo) (hR : RR Lx Lm) {i : Int32} (hin : lw_sc N i) (hroom : c0 + 4000 ≤ 603072 ∧ s0 + 40000 ≤ 7262314) (kk : ∀ L1 L2 c1 s1, RQ L1 L2 → c1 ≤ c0 + 4000 → s1 ≤ s0 + 40000 → LW K L1 L2 c1 s1 1269 (lvL b i) (fun _ _ => [])) : LW K Lx Lm c0 s0 1050 (lvL b i) (fun _ _ => []) := by
  obtain ⟨v, L1, L2, c, s, cm, sm, hx, hm, hR1, hc, hs⟩ := hok (xs (i + nI 1).toNatClampNeg) (xs (i + nI 2).toNatClampNeg) (xs (i + nI 3).toNatClampNeg) (xs (i + nI 4).toNatClampNeg) Lx Lm hR
  obtain ⟨⟨hkx, hzx⟩, hkm, hzm⟩ := h0 Lx Lm hR
  refine lw_ax hK 1 (fun _ _ => rfl) dL_law_1050 ?_
  refine lw_cell (n := 1) (v := nI 1) hK hB 3 (fun _ _ => rfl) (fun _ _ => rfl) rfl (hin 1 (by decide)) rfl dL_law_1051 dL_law_1052 dL_law_1053 dL_law_1054 dL_law_1055 ?_
  refine lw_cell (n := 2) (v := nI 2) hK hB 3 (fun _ _ => rfl) (fun _ _ => rfl) rfl (hin 2 (by decide)) rfl dL_law_1056 dL_law_1057 dL_law_1058 dL_law_1059 dL_law_1060 ?_
  refine lw_cell (n := 3) (v := nI 3) hK hB 3 (fun _ _ => rfl) (fun _ _ => rfl) rfl (hin 3 (by decide)) rfl dL_law_1061 dL_law_1062 dL_law_1063 dL_law_1064 dL_law_1065 ?_
  refine lw_cell (n := 4) (v := nI 4) hK hB 3 (fun _ _ => rfl) (fun _ _ => rfl) rfl (hin 4 (by decide)) rfl dL_law_1066 dL_law_1067 dL_law_1068 dL_law_1069 dL_law_1070 ?_
  refine lw_callx hK hB (st1 := [aI (xs (i + nI 4).toNatClampNeg), aI (xs (i + nI 3).toNatClampNeg), aI (xs (i + nI 2).toNatClampNeg), aI (xs (i + nI 1).toNatClampNeg)]) (st2 := []) (r := some (aI v)) (v1 := [.int (xs (i + nI 4).toNatClampNeg), .int (xs (i + nI 3).toNatClampNeg), .int (xs (i + nI 2).toNatClampNeg), .int (xs (i + nI 1).toNatClampNeg)]) (v2 := []) (v3 := [.int v]) (c1 := c) (s1 := s) (rq_VW (n := 4) (As := [aI (xs (i + nI 1).toNatClampNeg), aI (xs (i + nI 2).toNatClampNeg), aI (xs (i + nI 3).toNatClampNeg), aI (xs (i + nI 4).toNatClampNeg)]) hK (fw_rcvW hK fw_c0 hkx) (fw_czx hZ (ct_X0_put hx)) (lw_VW q1091 q1092 q1093 q94 q1094) (by decide +kernel) ⟨by omega, by omega⟩ rfl rfl (Nat.le_of_ble_eq_true rfl) dL_law_1071) hzx (lw_okz rfl) (fun _ => rfl) (fun _ => rfl) (fun _ => rfl) ⟨by omega, by omega⟩ ?_
  refine lw_am hK 2 (fun _ _ => rfl) dL_law_1074 ?_
  refine lw_cell (n := 1) (v := nI 1) hK hB 3 (fun _ _ => rfl) (fun _ _ => rfl) rfl (hin 1 (by decide)) rfl dL_law_1075 dL_law_1076 dL_law_1077 dL_law_1078 dL_law_1079 ?_
  refine lw_cell (n := 2) (v := nI 2) hK hB 3 (fun _ _ => rfl) (fun _ _ => rfl) rfl (hin 2 (by decide)) rfl dL_law_1080 dL_law_1081 dL_law_1082 dL_law_1083 dL_law_1084 ?_
  refine lw_cell (n := 3) (v := nI 3) hK hB 3 (fun _ _ => rfl) (fun _ _ => rfl) rfl (hin 3 (by decide)) rfl dL_law_1085 dL_law_1086 dL_law_1087 dL_law_1088 dL_law_1089 ?_
  refine lw_cell (n := 4) (v := nI 4) hK hB 3 (fun _ _ => rfl) (fun _ _ => rfl) rfl (hin 4 (by decide)) rfl dL_law_1090 dL_law_1091 dL_law_1092 dL_law_1093 dL_law_1094 ?_
  refine lw_callm hK hB (st1 := [aI (xs (i + nI 4).toNatClampNeg), aI (xs (i + nI 3).toNatClampNeg), aI (xs (i + nI 2).toNatClampNeg), aI (xs (i + nI 1).toNatClampNeg)]) (st2 := [aI v]) (r := some (aI v)) (v1 := [.int (xs (i + nI 4).toNatClampNeg), .int (xs (i + nI 3).toNatClampNeg), .int (xs (i + nI 2).toNatClampNeg), .int (xs (i + nI 1).toNatClampNeg)]) (v2 := [.int v]) (v3 := [.int v]) (c1 := cm) (s1 := sm) (rq_V (n := 4) (As := [aI (xs (i + nI 1).toNatClampNeg), aI (xs (i + nI 2).toNatClampNeg), aI (xs (i + nI 3).toNatClampNeg), aI (xs (i + nI 4).toNatClampNeg)]) hK (fw_rcvW hK fw_c7 hkm) (ct_X5_put hK.zk hm) (lw_V q1665 q1666 q1667 q102 q1668) (by decide +kernel) ⟨by omega, by omega⟩ rfl rfl (Nat.le_of_ble_eq_true rfl) dL_law_1095) hzm (lw_okz rfl) (fun _ => rfl) (fun _ => rfl) (fun _ => rfl) ⟨by omega, by omega⟩ ?_
  refine lw_same (tgt := 1269) hK dL_law_1098 (by decide) ?_
  exact kk L1 L2 _ _ hR1 (by omega) (by omega)
set_option maxHeartbeats 2000000 in
theorem lc_32 (hK : Ok K cL_law 4 "TugOfWarLaw" F Lo) (hZ : fw_isZ K) (hB : lw_B K b N xs) (h0 : lw_R0 RR) (hok : ∀ a1 a2 a3 : Int32, lw_ok RR RQ (f_X0_get 0 a1 a2 a3) (f_X5_get 0 a1 a2 a3)) (hFL : 400 ≤ F ∧ 60000 ≤ Lo) (hR : RR Lx Lm) {i : Int32} (hin : lw_sc N i) (hroom : c0 + 4000 ≤ 603072 ∧ s0 + 40000 ≤ 7262314) (kk : ∀ L1 L2 c1 s1, RQ L1 L2 → c1 ≤ c0 + 4000 → s1 ≤ s0 + 40000 → LW K L1 L2 c1 s1 1269 (lvL b i) (fun _ _ => [])) : LW K Lx Lm c0 s0 1103 (lvL b i) (fun _ _ => []) := by
  obtain ⟨v, L1, L2, c, s, cm, sm, hx, hm, hR1, hc, hs⟩ := hok (xs (i + nI 1).toNatClampNeg) (xs (i + nI 2).toNatClampNeg) (xs (i + nI 3).toNatClampNeg) Lx Lm hR
  obtain ⟨⟨hkx, hzx⟩, hkm, hzm⟩ := h0 Lx Lm hR
  refine lw_ax hK 1 (fun _ _ => rfl) dL_law_1103 ?_
  refine lw_cell (n := 1) (v := nI 1) hK hB 3 (fun _ _ => rfl) (fun _ _ => rfl) rfl (hin 1 (by decide)) rfl dL_law_1104 dL_law_1105 dL_law_1106 dL_law_1107 dL_law_1108 ?_
  refine lw_cell (n := 2) (v := nI 2) hK hB 3 (fun _ _ => rfl) (fun _ _ => rfl) rfl (hin 2 (by decide)) rfl dL_law_1109 dL_law_1110 dL_law_1111 dL_law_1112 dL_law_1113 ?_
  refine lw_cell (n := 3) (v := nI 3) hK hB 3 (fun _ _ => rfl) (fun _ _ => rfl) rfl (hin 3 (by decide)) rfl dL_law_1114 dL_law_1115 dL_law_1116 dL_law_1117 dL_law_1118 ?_
  refine lw_callx hK hB (st1 := [aI (xs (i + nI 3).toNatClampNeg), aI (xs (i + nI 2).toNatClampNeg), aI (xs (i + nI 1).toNatClampNeg)]) (st2 := []) (r := some (aI v)) (v1 := [.int (xs (i + nI 3).toNatClampNeg), .int (xs (i + nI 2).toNatClampNeg), .int (xs (i + nI 1).toNatClampNeg)]) (v2 := []) (v3 := [.int v]) (c1 := c) (s1 := s) (rq_VW (n := 3) (As := [aI (xs (i + nI 1).toNatClampNeg), aI (xs (i + nI 2).toNatClampNeg), aI (xs (i + nI 3).toNatClampNeg)]) hK (fw_rcvW hK fw_c0 hkx) (fw_czx hZ (ct_X0_get hx)) (lw_VW q1132 q1133 q1134 q94 q1135) (by decide +kernel) ⟨by omega, by omega⟩ rfl rfl (Nat.le_of_ble_eq_true rfl) dL_law_1119) hzx (lw_okz rfl) (fun _ => rfl) (fun _ => rfl) (fun _ => rfl) ⟨by omega, by omega⟩ ?_
  refine lw_am hK 2 (fun _ _ => rfl) dL_law_1122 ?_
  refine lw_cell (n := 1) (v := nI 1) hK hB 3 (fun _ _ => rfl) (fun _ _ => rfl) rfl (hin 1 (by decide)) rfl dL_law_1123 dL_law_1124 dL_law_1125 dL_law_1126 dL_law_1127 ?_
  refine lw_cell (n := 2) (v := nI 2) hK hB 3 (fun _ _ => rfl) (fun _ _ => rfl) rfl (hin 2 (by decide)) rfl dL_law_1128 dL_law_1129 dL_law_1130 dL_law_1131 dL_law_1132 ?_
  refine lw_cell (n := 3) (v := nI 3) hK hB 3 (fun _ _ => rfl) (fun _ _ => rfl) rfl (hin 3 (by decide)) rfl dL_law_1133 dL_law_1134 dL_law_1135 dL_law_1136 dL_law_1137 ?_
  refine lw_callm hK hB (st1 := [aI (xs (i + nI 3).toNatClampNeg), aI (xs (i + nI 2).toNatClampNeg), aI (xs (i + nI 1).toNatClampNeg)]) (st2 := [aI v]) (r := some (aI v)) (v1 := [.int (xs (i + nI 3).toNatClampNeg), .int (xs (i + nI 2).toNatClampNeg), .int (xs (i + nI 1).toNatClampNeg)]) (v2 := [.int v]) (v3 := [.int v]) (c1 := cm) (s1 := sm) (rq_V (n := 3) (As := [aI (xs (i + nI 1).toNatClampNeg), aI (xs (i + nI 2).toNatClampNeg), aI (xs (i + nI 3).toNatClampNeg)]) hK (fw_rcvW hK fw_c7 hkm) (ct_X5_get hK.zk hm) (lw_V q1677 q1678 q1679 q102 q1680) (by decide +kernel) ⟨by omega, by omega⟩ rfl rfl (Nat.le_of_ble_eq_true rfl) dL_law_1138) hzm (lw_okz rfl) (fun _ => rfl) (fun _ => rfl) (fun _ => rfl) ⟨by omega, by omega⟩ ?_
  refine lw_same (tgt := 1269) hK dL_law_1141 (by decide) ?_
  exact kk L1 L2 _ _ hR1 (by omega) (by omega)
set_option maxHeartbeats 2000000 in
theorem lc_33 (hK : Ok K cL_law 4 "TugOfWarLaw" F Lo) (hZ : fw_isZ K) (hB : lw_B K b N xs) (h0 : lw_R0 RR) (hok : ∀ a1 a2 a3 a4 a5 : Int32, lw_ok RR RQ (f_X0_copy 0 a1 a2 a3 a4 a5) (f_X5_copy 0 a1 a2 a3 a4 a5)) (hFL : 400 ≤ F ∧ 60000 ≤ Lo) (hR : RR Lx Lm) {i : Int32} (hin : lw_sc N i) (hroom : c0 + 4000 ≤ 603072 ∧ s0 + 40000 ≤ 7262314) (kk : ∀ L1 L2 c1 s1, RQ L1 L2 → c1 ≤ c0 + 4000 → s1 ≤ s0 + 40000 → LW K L1 L2 c1 s1 1269 (lvL b i) (fun _ _ => [])) : LW K Lx Lm c0 s0 1146 (lvL b i) (fun _ _ => []) := by
  obtain ⟨v, L1, L2, c, s, cm, sm, hx, hm, hR1, hc, hs⟩ := hok (xs (i + nI 1).toNatClampNeg) (xs (i + nI 2).toNatClampNeg) (xs (i + nI 3).toNatClampNeg) (xs (i + nI 4).toNatClampNeg) (xs (i + nI 5).toNatClampNeg) Lx Lm hR
  obtain ⟨⟨hkx, hzx⟩, hkm, hzm⟩ := h0 Lx Lm hR
  refine lw_ax hK 1 (fun _ _ => rfl) dL_law_1146 ?_
  refine lw_cell (n := 1) (v := nI 1) hK hB 3 (fun _ _ => rfl) (fun _ _ => rfl) rfl (hin 1 (by decide)) rfl dL_law_1147 dL_law_1148 dL_law_1149 dL_law_1150 dL_law_1151 ?_
  refine lw_cell (n := 2) (v := nI 2) hK hB 3 (fun _ _ => rfl) (fun _ _ => rfl) rfl (hin 2 (by decide)) rfl dL_law_1152 dL_law_1153 dL_law_1154 dL_law_1155 dL_law_1156 ?_
  refine lw_cell (n := 3) (v := nI 3) hK hB 3 (fun _ _ => rfl) (fun _ _ => rfl) rfl (hin 3 (by decide)) rfl dL_law_1157 dL_law_1158 dL_law_1159 dL_law_1160 dL_law_1161 ?_
  refine lw_cell (n := 4) (v := nI 4) hK hB 3 (fun _ _ => rfl) (fun _ _ => rfl) rfl (hin 4 (by decide)) rfl dL_law_1162 dL_law_1163 dL_law_1164 dL_law_1165 dL_law_1166 ?_
  refine lw_cell (n := 5) (v := nI 5) hK hB 3 (fun _ _ => rfl) (fun _ _ => rfl) rfl (hin 5 (by decide)) rfl dL_law_1167 dL_law_1168 dL_law_1169 dL_law_1170 dL_law_1171 ?_
  refine lw_callx hK hB (st1 := [aI (xs (i + nI 5).toNatClampNeg), aI (xs (i + nI 4).toNatClampNeg), aI (xs (i + nI 3).toNatClampNeg), aI (xs (i + nI 2).toNatClampNeg), aI (xs (i + nI 1).toNatClampNeg)]) (st2 := []) (r := some (aI v)) (v1 := [.int (xs (i + nI 5).toNatClampNeg), .int (xs (i + nI 4).toNatClampNeg), .int (xs (i + nI 3).toNatClampNeg), .int (xs (i + nI 2).toNatClampNeg), .int (xs (i + nI 1).toNatClampNeg)]) (v2 := []) (v3 := [.int v]) (c1 := c) (s1 := s) (rq_VW (n := 5) (As := [aI (xs (i + nI 1).toNatClampNeg), aI (xs (i + nI 2).toNatClampNeg), aI (xs (i + nI 3).toNatClampNeg), aI (xs (i + nI 4).toNatClampNeg), aI (xs (i + nI 5).toNatClampNeg)]) hK (fw_rcvW hK fw_c0 hkx) (fw_czx hZ (ct_X0_copy hx)) (lw_VW q1141 q1142 q1143 q94 q1144) (by decide +kernel) ⟨by omega, by omega⟩ rfl rfl (Nat.le_of_ble_eq_true rfl) dL_law_1172) hzx (lw_okz rfl) (fun _ => rfl) (fun _ => rfl) (fun _ => rfl) ⟨by omega, by omega⟩ ?_
  refine lw_am hK 2 (fun _ _ => rfl) dL_law_1175 ?_
  refine lw_cell (n := 1) (v := nI 1) hK hB 3 (fun _ _ => rfl) (fun _ _ => rfl) rfl (hin 1 (by decide)) rfl dL_law_1176 dL_law_1177 dL_law_1178 dL_law_1179 dL_law_1180 ?_
  refine lw_cell (n := 2) (v := nI 2) hK hB 3 (fun _ _ => rfl) (fun _ _ => rfl) rfl (hin 2 (by decide)) rfl dL_law_1181 dL_law_1182 dL_law_1183 dL_law_1184 dL_law_1185 ?_
  refine lw_cell (n := 3) (v := nI 3) hK hB 3 (fun _ _ => rfl) (fun _ _ => rfl) rfl (hin 3 (by decide)) rfl dL_law_1186 dL_law_1187 dL_law_1188 dL_law_1189 dL_law_1190 ?_
  refine lw_cell (n := 4) (v := nI 4) hK hB 3 (fun _ _ => rfl) (fun _ _ => rfl) rfl (hin 4 (by decide)) rfl dL_law_1191 dL_law_1192 dL_law_1193 dL_law_1194 dL_law_1195 ?_
  refine lw_cell (n := 5) (v := nI 5) hK hB 3 (fun _ _ => rfl) (fun _ _ => rfl) rfl (hin 5 (by decide)) rfl dL_law_1196 dL_law_1197 dL_law_1198 dL_law_1199 dL_law_1200 ?_
  refine lw_callm hK hB (st1 := [aI (xs (i + nI 5).toNatClampNeg), aI (xs (i + nI 4).toNatClampNeg), aI (xs (i + nI 3).toNatClampNeg), aI (xs (i + nI 2).toNatClampNeg), aI (xs (i + nI 1).toNatClampNeg)]) (st2 := [aI v]) (r := some (aI v)) (v1 := [.int (xs (i + nI 5).toNatClampNeg), .int (xs (i + nI 4).toNatClampNeg), .int (xs (i + nI 3).toNatClampNeg), .int (xs (i + nI 2).toNatClampNeg), .int (xs (i + nI 1).toNatClampNeg)]) (v2 := [.int v]) (v3 := [.int v]) (c1 := cm) (s1 := sm) (rq_V (n := 5) (As := [aI (xs (i + nI 1).toNatClampNeg), aI (xs (i + nI 2).toNatClampNeg), aI (xs (i + nI 3).toNatClampNeg), aI (xs (i + nI 4).toNatClampNeg), aI (xs (i + nI 5).toNatClampNeg)]) hK (fw_rcvW hK fw_c7 hkm) (ct_X5_copy hK.zk hm) (lw_V q1682 q1683 q1684 q102 q1685) (by decide +kernel) ⟨by omega, by omega⟩ rfl rfl (Nat.le_of_ble_eq_true rfl) dL_law_1201) hzm (lw_okz rfl) (fun _ => rfl) (fun _ => rfl) (fun _ => rfl) ⟨by omega, by omega⟩ ?_
  refine lw_same (tgt := 1269) hK dL_law_1204 (by decide) ?_
  exact kk L1 L2 _ _ hR1 (by omega) (by omega)
set_option maxHeartbeats 2000000 in
theorem lc_34 (hK : Ok K cL_law 4 "TugOfWarLaw" F Lo) (hZ : fw_isZ K) (hB : lw_B K b N xs) (h0 : lw_R0 RR) (hok : ∀ a1 : Int32, lw_ok RR RQ (f_X0_write 0 a1) (f_X5_write 0 a1)) (hFL : 400 ≤ F ∧ 60000 ≤ Lo) (hR : RR Lx Lm) {i : Int32} (hin : lw_sc N i) (hroom : c0 + 4000 ≤ 603072 ∧ s0 + 40000 ≤ 7262314) (kk : ∀ L1 L2 c1 s1, RQ L1 L2 → c1 ≤ c0 + 4000 → s1 ≤ s0 + 40000 → LW K L1 L2 c1 s1 1269 (lvL b i) (fun _ _ => [])) : LW K Lx Lm c0 s0 1209 (lvL b i) (fun _ _ => []) := by
  obtain ⟨v, L1, L2, c, s, cm, sm, hx, hm, hR1, hc, hs⟩ := hok (xs (i + nI 1).toNatClampNeg) Lx Lm hR
  obtain ⟨⟨hkx, hzx⟩, hkm, hzm⟩ := h0 Lx Lm hR
  refine lw_ax hK 1 (fun _ _ => rfl) dL_law_1209 ?_
  refine lw_cell (n := 1) (v := nI 1) hK hB 3 (fun _ _ => rfl) (fun _ _ => rfl) rfl (hin 1 (by decide)) rfl dL_law_1210 dL_law_1211 dL_law_1212 dL_law_1213 dL_law_1214 ?_
  refine lw_callx hK hB (st1 := [aI (xs (i + nI 1).toNatClampNeg)]) (st2 := []) (r := some (aI v)) (v1 := [.int (xs (i + nI 1).toNatClampNeg)]) (v2 := []) (v3 := [.int v]) (c1 := c) (s1 := s) (rq_V (n := 1) (As := [aI (xs (i + nI 1).toNatClampNeg)]) hK (fw_rcvW hK fw_c0 hkx) (fw_czx hZ (ct_X0_write hx)) (lw_V q1146 q1147 q1148 q94 q1149) (by decide +kernel) ⟨by omega, by omega⟩ rfl rfl (Nat.le_of_ble_eq_true rfl) dL_law_1215) hzx (lw_okz rfl) (fun _ => rfl) (fun _ => rfl) (fun _ => rfl) ⟨by omega, by omega⟩ ?_
  refine lw_am hK 2 (fun _ _ => rfl) dL_law_1218 ?_
  refine lw_cell (n := 1) (v := nI 1) hK hB 3 (fun _ _ => rfl) (fun _ _ => rfl) rfl (hin 1 (by decide)) rfl dL_law_1219 dL_law_1220 dL_law_1221 dL_law_1222 dL_law_1223 ?_
  refine lw_callm hK hB (st1 := [aI (xs (i + nI 1).toNatClampNeg)]) (st2 := [aI v]) (r := some (aI v)) (v1 := [.int (xs (i + nI 1).toNatClampNeg)]) (v2 := [.int v]) (v3 := [.int v]) (c1 := cm) (s1 := sm) (rq_V (n := 1) (As := [aI (xs (i + nI 1).toNatClampNeg)]) hK (fw_rcvW hK fw_c7 hkm) (ct_X5_write hK.zk hm) (lw_V q1686 q1687 q1688 q102 q1689) (by decide +kernel) ⟨by omega, by omega⟩ rfl rfl (Nat.le_of_ble_eq_true rfl) dL_law_1224) hzm (lw_okz rfl) (fun _ => rfl) (fun _ => rfl) (fun _ => rfl) ⟨by omega, by omega⟩ ?_
  refine lw_same (tgt := 1269) hK dL_law_1227 (by decide) ?_
  exact kk L1 L2 _ _ hR1 (by omega) (by omega)
set_option maxHeartbeats 2000000 in
theorem lc_35 (hK : Ok K cL_law 4 "TugOfWarLaw" F Lo) (hZ : fw_isZ K) (hB : lw_B K b N xs) (h0 : lw_R0 RR) (hok : ∀ a1 : Int32, lw_ok RR RQ (f_X0_count 0 a1) (f_X5_count 0 a1)) (hFL : 400 ≤ F ∧ 60000 ≤ Lo) (hR : RR Lx Lm) {i : Int32} (hin : lw_sc N i) (hroom : c0 + 4000 ≤ 603072 ∧ s0 + 40000 ≤ 7262314) (kk : ∀ L1 L2 c1 s1, RQ L1 L2 → c1 ≤ c0 + 4000 → s1 ≤ s0 + 40000 → LW K L1 L2 c1 s1 1269 (lvL b i) (fun _ _ => [])) : LW K Lx Lm c0 s0 1232 (lvL b i) (fun _ _ => []) := by
  obtain ⟨v, L1, L2, c, s, cm, sm, hx, hm, hR1, hc, hs⟩ := hok (xs (i + nI 1).toNatClampNeg) Lx Lm hR
  obtain ⟨⟨hkx, hzx⟩, hkm, hzm⟩ := h0 Lx Lm hR
  refine lw_ax hK 1 (fun _ _ => rfl) dL_law_1232 ?_
  refine lw_cell (n := 1) (v := nI 1) hK hB 3 (fun _ _ => rfl) (fun _ _ => rfl) rfl (hin 1 (by decide)) rfl dL_law_1233 dL_law_1234 dL_law_1235 dL_law_1236 dL_law_1237 ?_
  refine lw_callx hK hB (st1 := [aI (xs (i + nI 1).toNatClampNeg)]) (st2 := []) (r := some (aI v)) (v1 := [.int (xs (i + nI 1).toNatClampNeg)]) (v2 := []) (v3 := [.int v]) (c1 := c) (s1 := s) (rq_V (n := 1) (As := [aI (xs (i + nI 1).toNatClampNeg)]) hK (fw_rcvW hK fw_c0 hkx) (fw_czx hZ (ct_X0_count hx)) (lw_V q1150 q1151 q1152 q94 q1153) (by decide +kernel) ⟨by omega, by omega⟩ rfl rfl (Nat.le_of_ble_eq_true rfl) dL_law_1238) hzx (lw_okz rfl) (fun _ => rfl) (fun _ => rfl) (fun _ => rfl) ⟨by omega, by omega⟩ ?_
  refine lw_am hK 2 (fun _ _ => rfl) dL_law_1241 ?_
  refine lw_cell (n := 1) (v := nI 1) hK hB 3 (fun _ _ => rfl) (fun _ _ => rfl) rfl (hin 1 (by decide)) rfl dL_law_1242 dL_law_1243 dL_law_1244 dL_law_1245 dL_law_1246 ?_
  refine lw_callm hK hB (st1 := [aI (xs (i + nI 1).toNatClampNeg)]) (st2 := [aI v]) (r := some (aI v)) (v1 := [.int (xs (i + nI 1).toNatClampNeg)]) (v2 := [.int v]) (v3 := [.int v]) (c1 := cm) (s1 := sm) (rq_V (n := 1) (As := [aI (xs (i + nI 1).toNatClampNeg)]) hK (fw_rcvW hK fw_c7 hkm) (ct_X5_count hK.zk hm) (lw_V q1690 q1691 q1692 q102 q1693) (by decide +kernel) ⟨by omega, by omega⟩ rfl rfl (Nat.le_of_ble_eq_true rfl) dL_law_1247) hzm (lw_okz rfl) (fun _ => rfl) (fun _ => rfl) (fun _ => rfl) ⟨by omega, by omega⟩ ?_
  refine lw_same (tgt := 1269) hK dL_law_1250 (by decide) ?_
  exact kk L1 L2 _ _ hR1 (by omega) (by omega)
set_option maxHeartbeats 2000000 in
theorem lc_36 (hK : Ok K cL_law 4 "TugOfWarLaw" F Lo) (hZ : fw_isZ K) (hB : lw_B K b N xs) (h0 : lw_R0 RR) (hok : lw_ok RR RQ (f_X0_digest 0) (f_X5_digest 0)) (hFL : 400 ≤ F ∧ 60000 ≤ Lo) (hR : RR Lx Lm) {i : Int32} (hin : lw_sc N i) (hroom : c0 + 4000 ≤ 603072 ∧ s0 + 40000 ≤ 7262314) (kk : ∀ L1 L2 c1 s1, RQ L1 L2 → c1 ≤ c0 + 4000 → s1 ≤ s0 + 40000 → LW K L1 L2 c1 s1 1269 (lvL b i) (fun _ _ => [])) : LW K Lx Lm c0 s0 1255 (lvL b i) (fun _ _ => []) := by
  obtain ⟨v, L1, L2, c, s, cm, sm, hx, hm, hR1, hc, hs⟩ := hok Lx Lm hR
  obtain ⟨⟨hkx, hzx⟩, hkm, hzm⟩ := h0 Lx Lm hR
  refine lw_ax hK 1 (fun _ _ => rfl) dL_law_1255 ?_
  refine lw_callx hK hB (st1 := []) (st2 := []) (r := some (aL v)) (v1 := []) (v2 := []) (v3 := [.long v]) (c1 := c) (s1 := s) (rq_V (n := 0) (As := []) hK (fw_rcvW hK fw_c0 hkx) (fw_czx hZ (ct_X0_digest hx)) (lw_V q1172 q1173 q1174 q94 q1175) (by decide +kernel) ⟨by omega, by omega⟩ rfl rfl (Nat.le_of_ble_eq_true rfl) dL_law_1256) hzx (lw_okz rfl) (fun _ => rfl) (fun _ => rfl) (fun _ => rfl) ⟨by omega, by omega⟩ ?_
  refine lw_am hK 2 (fun _ _ => rfl) dL_law_1259 ?_
  refine lw_callm hK hB (st1 := []) (st2 := [aL v]) (r := some (aL v)) (v1 := []) (v2 := [.long v]) (v3 := [.long v]) (c1 := cm) (s1 := sm) (rq_V (n := 0) (As := []) hK (fw_rcvW hK fw_c7 hkm) (ct_X5_digest hK.zk hm) (lw_V q1698 q1699 q1700 q102 q1701) (by decide +kernel) ⟨by omega, by omega⟩ rfl rfl (Nat.le_of_ble_eq_true rfl) dL_law_1260) hzm (lw_okz rfl) (fun _ => rfl) (fun _ => rfl) (fun _ => rfl) ⟨by omega, by omega⟩ ?_
  refine lw_sameL (tgt := 1269) hK dL_law_1263 dL_law_1264 (by decide) ?_
  exact kk L1 L2 _ _ hR1 (by omega) (by omega)
/-- THE PLAIN LAW: what is owed of the functions -/
def PL2 (RR RQ : LH → LH → Prop) : Prop := (∀ a1 a2 : Int32, lw_ok RR RQ (f_X0_type 0 a1 a2) (f_X5_type 0 a1 a2)) ∧ (∀ a1 : Int32, lw_ok RR RQ (f_X0_wipe 0 a1) (f_X5_wipe 0 a1)) ∧ (∀ a1 : Int32, lw_ok RR RQ (f_X0_undo 0 a1) (f_X5_undo 0 a1)) ∧ (∀ a1 : Int32, lw_ok RR RQ (f_X0_fault 0 a1) (f_X5_fault 0 a1)) ∧ (∀ a1 a2 : Int32, lw_ok RR RQ (f_X0_puller 0 a1 a2) (f_X5_puller 0 a1 a2)) ∧ (∀ a1 a2 : Int32, lw_ok RR RQ (f_X0_call 0 a1 a2) (f_X5_call 0 a1 a2)) ∧ (∀ a1 : Int32, lw_ok RR RQ (f_X0_mud 0 a1) (f_X5_mud 0 a1)) ∧ (∀ a1 a2 a3 : Int32, lw_ok RR RQ (f_X0_event 0 a1 a2 a3) (f_X5_event 0 a1 a2 a3)) ∧ (lw_ok RR RQ (f_X0_back 0) (f_X5_back 0)) ∧ (∀ a1 : Int32, lw_ok RR RQ (f_X0_read 0 a1) (f_X5_read 0 a1)) ∧ (∀ a1 a2 : Int32, lw_ok RR RQ (f_X0_rope 0 a1 a2) (f_X5_rope 0 a1 a2)) ∧ (∀ a1 a2 a3 : Int32, lw_ok RR RQ (f_X0_at 0 a1 a2 a3) (f_X5_at 0 a1 a2 a3)) ∧ (∀ a1 : Int32, lw_ok RR RQ (f_X0_won 0 a1) (f_X5_won 0 a1)) ∧ (∀ a1 : Int32, lw_ok RR RQ (f_X0_furthest 0 a1) (f_X5_furthest 0 a1)) ∧ (∀ a1 : Int32, lw_ok RR RQ (f_X0_done 0 a1) (f_X5_done 0 a1)) ∧ (lw_ok RR RQ (f_X0_spent 0) (f_X5_spent 0)) ∧ (lw_ok RR RQ (f_X0_best 0) (f_X5_best 0)) ∧ (lw_ok RR RQ (f_X0_level 0) (f_X5_level 0)) ∧ (∀ a1 a2 a3 : Int32, lw_ok RR RQ (f_X0_better 0 a1 a2 a3) (f_X5_better 0 a1 a2 a3)) ∧ (∀ a1 a2 : Int32, lw_ok RR RQ (f_X0_swap 0 a1 a2) (f_X5_swap 0 a1 a2)) ∧ (∀ a1 a2 : Int32, lw_ok RR RQ (f_X0_out 0 a1 a2) (f_X5_out 0 a1 a2)) ∧ (∀ a1 : Int32, lw_ok RR RQ (f_X0_spare 0 a1) (f_X5_spare 0 a1)) ∧ (∀ a1 a2 : Int32, lw_ok RR RQ (f_X0_seen 0 a1 a2) (f_X5_seen 0 a1 a2)) ∧ (lw_ok RR RQ (f_X0_forget 0) (f_X5_forget 0)) ∧ (lw_ok RR RQ (f_X0_never 0) (f_X5_never 0)) ∧ (∀ a1 a2 : Int32, lw_ok RR RQ (f_X0_was 0 a1 a2) (f_X5_was 0 a1 a2)) ∧ (∀ a1 : Int32, lw_ok RR RQ (f_X0_ask 0 a1) (f_X5_ask 0 a1)) ∧ (∀ a1 a2 a3 : Int32, lw_ok RR RQ (f_X0_chance 0 a1 a2 a3) (f_X5_chance 0 a1 a2 a3)) ∧ (∀ a1 a2 a3 : Int32, lw_ok RR RQ (f_X0_years 0 a1 a2 a3) (f_X5_years 0 a1 a2 a3)) ∧ (∀ a1 a2 a3 : Int32, lw_ok RR RQ (f_X0_sheet 0 a1 a2 a3) (f_X5_sheet 0 a1 a2 a3)) ∧ (∀ a1 : Int32, lw_ok RR RQ (f_X0_lose 0 a1) (f_X5_lose 0 a1)) ∧ (∀ a1 a2 a3 a4 : Int32, lw_ok RR RQ (f_X0_put 0 a1 a2 a3 a4) (f_X5_put 0 a1 a2 a3 a4)) ∧ (∀ a1 a2 a3 : Int32, lw_ok RR RQ (f_X0_get 0 a1 a2 a3) (f_X5_get 0 a1 a2 a3)) ∧ (∀ a1 a2 a3 a4 a5 : Int32, lw_ok RR RQ (f_X0_copy 0 a1 a2 a3 a4 a5) (f_X5_copy 0 a1 a2 a3 a4 a5)) ∧ (∀ a1 : Int32, lw_ok RR RQ (f_X0_write 0 a1) (f_X5_write 0 a1)) ∧ (∀ a1 : Int32, lw_ok RR RQ (f_X0_count 0 a1) (f_X5_count 0 a1)) ∧ (lw_ok RR RQ (f_X0_digest 0) (f_X5_digest 0))
def PL (RR : Nat → LH → LH → Prop) : Prop := ∀ k : Nat, k < 65 → PL2 (RR k) (RR (k + 1)) ∧ ∀ Lx Lm, RR k Lx Lm → RR (k + 1) Lx Lm
end Law
