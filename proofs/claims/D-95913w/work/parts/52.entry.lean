set_option maxRecDepth 100000
/-! The law's entry: the two objects are made. -/
def PI (RR : Nat → LH → LH → Prop) : Prop := ∃ L1 c s L2 cm sm, f_X0_init 0 (lh_new lh_0 1 0) = some ((), L1, c, s) ∧ f_X5_init 0 (lh_new lh_0 8 0) = some ((), L2, cm, sm) ∧ RR 0 L1 L2 ∧ c + cm + 2 ≤ 4000 ∧ s + sm + 72 ≤ 40000
section Entry
variable {K : Kx} {F Lo : Nat} {b N : Nat} {xs : Nat → Int32} {RR : Nat → LH → LH → Prop} {cc : ByteArray} {own : String} {nL pc : Nat} {L : LH} {st st0 : List AV}
theorem rq_I (hK : Ok K cc nL own F Lo) {As : List AV} {j : Nat} {y : MethodName} {bytes : ByteArray} {maxL index fr lo n c1 s1 : Nat} {L1 : LH}
    (hC : Ct (kx_Z K) y (ws_ y bytes maxL none) fr lo (aR (some j) :: As) L none L1 c1 s1) (hG : GoodIn lw_all (ws_ y bytes maxL none)) (hq1 : Cond.initialized y.cls ∈ lw_all) (hq2 : Cond.methodLink own index y ∈ lw_all) (hq3 : Cond.instanceMethod y ∈ lw_all) (hy1 : y.name = "<init>")
    (hd : y.cls ≠ "java/lang/invoke/MethodHandle" ∧ y.cls ≠ "java/lang/invoke/VarHandle" ∧ (parseMethodDescriptor y.desc).map (fun d => d.parameters.length) = some n) (hR : fr + 1 ≤ F ∧ 8 + (maxL + 11) + lo ≤ Lo) (hn : As.length = n) (hst : st0 = As.reverse ++ aR (some j) :: st) (hcat : (st.map catA).sum ≤ 8)
    (hdg : decode cc pc = .ok (.invokespecial index, 3)) : fw_RQ K nL L pc st0 st none L1 c1 s1 := by
  intro ad H locs cells slots ls hW hs hcs hsz
  have has : ∀ v ∈ aR (some j) :: As, okv (lh_z L) v := fun v hv => hs v ((fw_sub1 hst).1 v hv)
  exact va_runI (b := ad j) (As := As.map (cv ad)) (rest := st.map (cv ad)) ⟨hK.x, hK.b, hK.ml, hK.ow, hK.ts⟩ (hC _ hK.fl (kx_G K) ad H.size) (cwI n hK.ts hG rfl rfl rfl (hK.ts _ hq1) (hK.ts _ hq2) (hK.ts _ hq3) hy1 hd (by rw [hK.fr, hK.lo]; exact hR)) ⟨fw_blind hK.zk, fun U hU hWm => ⟨rfl, fw_pre_of hK hW has hU hWm⟩⟩ rfl (by rw [List.length_map]; exact hn) hsz (fw_stk hst) (lv_room (fw_cat hcat)) hdg hcs
/-- a first object, beside another world -/
theorem lw_new0 (hK : Ok K cc 4 own F Lo) (hB : lw_B K b N xs) {Lp : LH} {ad adp : Nat → Nat} {H : Heap} {ls : Array Slot} {rest : List Value} {c0 s0 ci n index : Nat} {C : String} {T : u_T} (hc : fw_cF ci C T n) (hq1 : Cond.classLink own index C ∈ lw_all) (hq2 : Cond.instantiable C n ∈ lw_all) (hq3 : Cond.initialized C ∈ lw_all) (hWa : fw_wst K lh_0 ad H []) (hWp : fw_wst K Lp adp H []) (hroom : c0 + 1 ≤ 603072 ∧ s0 + n ≤ 7262314) (hdg : decode cc pc = .ok (.new index, 3))
    (kk : ∀ (q : Nat) (H1 : Heap), fw_wst K (lh_new lh_0 (ci + 1) 0) (fw_u1 ad 0 q) H1 [] → fw_wst K Lp adp H1 [] → (∀ i j, i < 1 → j < lh_z Lp → fw_u1 ad 0 q i ≠ adp j) → W (kx_p K) (kx_l K) (kx_e K) (kx_R K) (kx_s K) (kx_m K) (kx_a K) (kx_b K) (kx_me K) (kx_c K) H1 [] (c0 + 1) (s0 + n) (kx_Q K) (F0 (kx_m K) (pc + 3) ls (.ref q :: rest))) :
    W (kx_p K) (kx_l K) (kx_e K) (kx_R K) (kx_s K) (kx_m K) (kx_a K) (kx_b K) (kx_me K) (kx_c K) H [] c0 s0 (kx_Q K) (F0 (kx_m K) pc ls rest) := by
  refine va_new (ci := ci) (fs := (List.range n).map (fun k => if fw_ref (fw_ty ci k) = true then Value.null else .int 0)) hK.x hK.b hK.ts hc.2.1 (fw_ty ci) hc.2.2.2.1 hK.ow (hK.ts _ hq1) (hK.ts _ hq2) (hK.ts _ hq3) hK.hK hWp.1 hWp.2.1 hWp.2.2.1 hK.hA hc.1 (fun j hj => ?_) (by rw [hB.2.2.2.2.2.1]; omega) (by rw [hB.2.2.2.2.2.2]; omega) hdg (fun q H1 hP hD hS => ?_)
  · unfold vp_V
    rw [hc.2.2.2.2.2.2 j hj, List.getD_eq_getElem?_getD, List.getElem?_map, List.getElem?_range hj]
    rfl
  · have he : fw_ent (kx_G K) (lh_new lh_0 (ci + 1) 0) (fw_u1 ad 0 q) 0 = .inr (ci, (List.range n).map (fun k => if fw_ref (fw_ty ci k) = true then Value.null else .int 0)) := by
      unfold fw_ent
      have hk : lh_k (lh_new lh_0 (ci + 1) 0) 0 = ci + 1 := by rw [lh_k_new]; exact fw_u1_self _ _ _
      have h50 := hc.2.2.2.2.2.1
      rw [hk, if_pos (by omega), Nat.add_sub_cancel]
      unfold fw_flds
      rw [hc.2.2.1]
      congr 3
    have hlast : (fw_wl (kx_G K) Lp adp ++ [(q, (.inr (ci, (List.range n).map (fun k => if fw_ref (fw_ty ci k) = true then Value.null else .int 0)) : va_E))])[(fw_wl (kx_G K) Lp adp).length]? = some (q, .inr (ci, (List.range n).map (fun k => if fw_ref (fw_ty ci k) = true then Value.null else .int 0))) := by simp
    have hfront : ∀ (k : Nat) (x : Nat × va_E), (fw_wl (kx_G K) Lp adp)[k]? = some x → (fw_wl (kx_G K) Lp adp ++ [(q, (.inr (ci, (List.range n).map (fun k => if fw_ref (fw_ty ci k) = true then Value.null else .int 0)) : va_E))])[k]? = some x := fun k x hk => by
      rw [List.getElem?_append_left (List.getElem?_eq_some_iff.mp hk).1]; exact hk
    have hone : ∀ (k : Nat) (x : Nat × va_E), (fw_wl (kx_G K) (lh_new lh_0 (ci + 1) 0) (fw_u1 ad 0 q))[k]? = some x → k = 0 ∧ x = (q, .inr (ci, (List.range n).map (fun k => if fw_ref (fw_ty ci k) = true then Value.null else .int 0))) := fun k x hk => by
      obtain ⟨h1, rfl⟩ := fw_in hk
      have h1 : k < 1 := h1
      obtain rfl : k = 0 := by omega
      rw [he, fw_u1_self]
      exact ⟨rfl, rfl⟩
    refine kk q H1 ⟨fun k x hk => ?_, ⟨fun i j p q' hi hj _ => ?_, fun k x hk => ?_⟩, hS, fun j hj => ?_, ?_, lh_0_wf.new _ _ (by decide)⟩ ⟨fun k x hk => hP k x (hfront k x hk), ⟨fun i j p q' hi hj e => hD.1 i j p q' (hfront i p hi) (hfront j q' hj) e, fun k x hk => hD.2 k x (hfront k x hk)⟩, hS, hWp.2.2.2⟩ (fun i j hi hj e => ?_)
    · obtain ⟨-, rfl⟩ := hone k x hk
      exact hP _ _ hlast
    · rw [(hone i p hi).1, (hone j q' hj).1]
    · obtain ⟨-, rfl⟩ := hone k x hk
      exact hD.2 _ _ hlast
    · rw [fw_u1_ne _ _ (by rcases hj with h | h; (rw [hB.2.2.2.2.1] at h; omega); (have : fw_RO = 1000000 := rfl; omega))]
      exact hWa.2.2.2.1 j hj
    · rw [hB.2.2.2.2.1]; exact Nat.zero_le _
    · obtain rfl : i = 0 := by omega
      rw [fw_u1_self] at e
      have h1 := hfront j _ (fw_get (G := kx_G K) (ad := adp) hj)
      have := hD.1 _ _ _ _ hlast h1 e
      rw [fw_len] at this
      omega
theorem lw_entry (hK : Ok K cL_law 4 "TugOfWarLaw" F Lo) (hZ : fw_isZ K) (hB : lw_B K b N xs) (hE : lw_E K) (h0 : ∀ k, lw_R0 (RR k)) (hI : PI RR) (hP : PL RR) (hFL : 400 ≤ F ∧ 60000 ≤ Lo) : LW K lh_0 lh_0 0 0 0 (fun _ _ => [(0, .ref b)]) (fun _ _ => []) := by
  obtain ⟨L1, c, s, L2, cm, sm, hx, hm, hR, hcc, hss⟩ := hI
  intro adx adm H ls h hl
  refine lw_new0 hK hB fw_c0 q122 q123 q94 h.1 h.2.1 ⟨by decide, by decide⟩ dL_law_0 (fun q H1 w1 w2 w3 => ?_)
  refine lv_dup hK.x hK.b dL_law_3 rfl ?_
  have key : LW K (lh_new lh_0 1 0) lh_0 (0 + 1) (0 + 25) 4 (fun _ _ => [(0, .ref b)]) (fun x _ => [x, x]) := by
    refine lw_initx hK hB (c1 := c) (s1 := s) (rq_I (n := 0) (As := []) hK (fw_czx hZ (ct_X0_init hx)) (lw_meth q126) q94 q124 q125 rfl (by decide +kernel) ⟨by omega, by omega⟩ rfl rfl (Nat.le_of_ble_eq_true rfl) dL_law_4) (by decide) ⟨by omega, by omega⟩ ?_
    intro adx adm H ls h hl
    refine lv_astore_n hK.x hK.b dL_law_7 rfl hl (by decide) rfl (fun ls' hl' => ?_)
    refine lw_new0 hK hB fw_c7 q1187 q1188 q102 h.2.1 h.1 ⟨by omega, by omega⟩ dL_law_8 (fun q H1 w1 w2 w3 => ?_)
    refine lv_dup hK.x hK.b dL_law_11 rfl ?_
    have key2 : LW K L1 (lh_new lh_0 8 0) (0 + 1 + c + 1) (0 + 25 + s + 47) 12 (fun x _ => [(1, x), (0, .ref b)]) (fun _ m => [m, m]) := by
      refine lw_initm hK hB (c1 := cm) (s1 := sm) (rq_I (n := 0) (As := []) hK (ct_X5_init hK.zk hm) (lw_meth q1191) q102 q1189 q1190 rfl (by decide +kernel) ⟨by omega, by omega⟩ rfl rfl (Nat.le_of_ble_eq_true rfl) dL_law_12) (by decide) ⟨by omega, by omega⟩ ?_
      intro adx adm H ls h hl
      refine lv_astore_n hK.x hK.b dL_law_15 rfl hl (by decide) rfl (fun ls' hl' => ?_)
      refine lv_iconst (v := nI 0) hK.x hK.b dL_law_16 rfl ?_
      refine lv_istore_n hK.x hK.b dL_law_17 rfl hl' (by decide) rfl (fun ls2 hl2 => ?_)
      exact lw_loop hK hZ hB hE h0 hP hFL 65 0 rfl L1 L2 _ _ hR (by omega) (by omega) (by omega) adx adm H ls2 h (lv_sub hl2 [3, 2, 1, 0] rfl)
    have e := key2 adx (fw_u1 adm 0 q) H1 ls' ⟨w2, w1, fun i j hi hj e => w3 j i hj hi e.symm⟩ hl'
    rw [fw_u1_self] at e
    exact e
  have e := key (fw_u1 adx 0 q) adm H1 ls ⟨w1, w2, w3⟩ hl
  rw [fw_u1_self] at e
  exact e
end Entry
