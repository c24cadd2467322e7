set_option maxRecDepth 100000
/-! Calls whose method is found by the receiver; super; a nest mate's constructor; methods with handlers that return. -/
section RowsQ
variable {K : Kx} {cc : ByteArray} {nL F Lo : Nat} {own : String} {L : LH} {mc ms pc : Nat} {lv : List (Nat × AV)} {st st0 : List AV}
/-- a call runs: it answers r, leaves L1 -/
def fw_RQ (K : Kx) (nL : Nat) (L : LH) (pc : Nat) (st0 st : List AV) (r : Option AV) (L1 : LH) (c1 s1 : Nat) : Prop :=
  ∀ (ad : Nat → Nat) (H : Heap) (locs : List Loc) (cells slots : Nat) (ls : Array Slot), fw_wst K L ad H locs → (∀ v ∈ st0, okv (lh_z L) v) → cells + c1 ≤ (kx_R K).cells ∧ slots + s1 ≤ (kx_R K).slots → ls.size = nL →
    va_Run (kx_p K) (kx_l K) (kx_e K) (kx_R K) (kx_s K) (kx_m K) (kx_a K) (kx_b K) (kx_me K) (kx_c K) H locs cells slots c1 s1 (F0 (kx_m K) pc ls (st0.map (cv ad))) (st.map (cv ad)) (fw_Q (kx_G K) ad (lh_z L) (va_A (fw_wl (kx_G K) L ad) H.size) r L1 #[]) (va_A (fw_wl (kx_G K) L ad) H.size)
theorem aw_callQ {α β : Type} (hK : Ok K cc nL own F Lo) {f : Rs α} {rv : α → Option AV} {k : α → LH → Rs β} {b : β} {L9 : LH} (hq : ∀ r L1 c1 s1, f = some (r, L1, c1, s1) → fw_RQ K nL L pc st0 st (rv r) L1 c1 s1) (hst : ∀ v ∈ st, v ∈ st0) (h : fw_cl f k = some (b, L9, mc, ms)) (kk : ∀ r L1 c2 s2, k r L1 = some (b, L9, c2, s2) → AW K L1 c2 s2 (pc + 3) lv ((rv r).toList ++ st)) : AW K L mc ms pc lv st0 := by
  obtain ⟨r, L1, c1, s1, c2, s2, hf, hk, rfl, rfl⟩ := fw_cl_h h
  exact aw_run (st := st) hK (hq r L1 c1 s1 hf) hst (kk r L1 c2 s2 hk)
/-- the receiver is of class C -/
def fw_rcv (K : Kx) (L : LH) (j : Nat) (C : String) : Prop := ∀ (ad : Nat → Nat) (H : Heap) (locs : List Loc), fw_wst K L ad H locs → ∃ cell : Cell, H[ad j]? = some cell ∧ cell.vm.isStatics = false ∧ (kx_s K).vm.findClass C = some cell.cls
theorem fw_rcvW (hK : Ok K cc nL own F Lo) {ci N j : Nat} {C : String} {T : u_T} (hc : fw_cF ci C T N) (hj : lh_k L j = ci + 1) : fw_rcv K L j C := fun _ _ _ hW => va_recv hK.hK hW.1 hc.1 (fw_getO hW.2.2.2.2.2 hj hc.2.2.2.2.2.1)
theorem fw_rcvO (hK : Ok K cc nL own F Lo) {i : Nat} {C : String} (h : va_O C ((kx_G K).2.2 i) (kx_A K) (kx_s K) (kx_s K).heap) : fw_rcv K L (fw_RO + i) C := fun ad H locs hW => by
  rw [hW.ro hK i]
  exact va_Orecv h hW.2.2.1
theorem fw_sub1 {As : List AV} {j : Nat} (hst : st0 = As.reverse ++ aR (some j) :: st) : (∀ v ∈ aR (some j) :: As, v ∈ st0) ∧ ∀ v ∈ st, v ∈ st0 := by
  subst hst
  refine ⟨fun v hv => ?_, fun v hv => List.mem_append_right _ (List.mem_cons_of_mem _ hv)⟩
  rcases List.mem_cons.mp hv with e | e
  · rw [e]; exact List.mem_append_right _ List.mem_cons_self
  · exact List.mem_append_left _ (List.mem_reverse.mpr e)
theorem fw_stk {As : List AV} {j : Nat} {ad : Nat → Nat} (hst : st0 = As.reverse ++ aR (some j) :: st) : st0.map (cv ad) = (As.map (cv ad)).reverse ++ .ref (ad j) :: st.map (cv ad) := by
  rw [hst, List.map_append, List.map_reverse]; rfl
theorem rq_V (hK : Ok K cc nL own F Lo) {As : List AV} {j : Nat} {C : String} {y : MethodName} {bytes : ByteArray} {maxL index fr lo n c1 s1 : Nat} {ret : Option FieldType} {r : Option AV} {L1 : LH} (hr : fw_rcv K L j C)
    (hC : Ct (kx_Z K) y (ws_ y bytes maxL ret) fr lo (aR (some j) :: As) L r L1 c1 s1) (hG : GoodIn lw_all (wsV own index C y (ws_ y bytes maxL ret)))
    (hd : y.cls = C ∧ y.cls ≠ "java/lang/invoke/MethodHandle" ∧ y.cls ≠ "java/lang/invoke/VarHandle" ∧ (parseMethodDescriptor y.desc).map (fun d => d.parameters.length) = some n) (hR : fr + 1 ≤ F ∧ 8 + (maxL + 11) + lo ≤ Lo) (hn : As.length = n) (hst : st0 = As.reverse ++ aR (some j) :: st) (hcat : (st.map catA).sum ≤ 8)
    (hdg : decode cc pc = .ok (.invokevirtual index, 3)) : fw_RQ K nL L pc st0 st r L1 c1 s1 := by
  intro ad H locs cells slots ls hW hs hcs hsz
  have has : ∀ v ∈ aR (some j) :: As, okv (lh_z L) v := fun v hv => hs v ((fw_sub1 hst).1 v hv)
  exact va_runV (b := ad j) (As := As.map (cv ad)) (rest := st.map (cv ad)) ⟨hK.x, hK.b, hK.ml, hK.ow, hK.ts⟩ (hC _ hK.fl (kx_G K) ad H.size) (cwV n hK.ts hG rfl rfl rfl hd (by rw [hK.fr, hK.lo]; exact hR)) ⟨fw_blind hK.zk, hr ad H locs hW, fun U hU hWm => ⟨rfl, fw_pre_of hK hW has hU hWm⟩⟩ rfl (by rw [List.length_map]; exact hn) hsz (fw_stk hst) (lv_room (fw_cat hcat)) hdg hcs
/-- a method of a class above, not overridden (or the reference names the class itself) -/
theorem rq_U (hK : Ok K cc nL own F Lo) {As : List AV} {j : Nat} {C owner : String} {x y : MethodName} {bytes : ByteArray} {maxL index fr lo n c1 s1 : Nat} {ret : Option FieldType} {r : Option AV} {L1 : LH} (hr : fw_rcv K L j C)
    (hC : Ct (kx_Z K) y (ws_ y bytes maxL ret) fr lo (aR (some j) :: As) L r L1 c1 s1) (hG : GoodIn lw_all (va_wsU own index C owner x y (ws_ y bytes maxL ret))) (hyx : y = ⟨owner, x.name, x.desc⟩)
    (hd : owner ≠ "java/lang/invoke/MethodHandle" ∧ owner ≠ "java/lang/invoke/VarHandle" ∧ (parseMethodDescriptor x.desc).map (fun d => d.parameters.length) = some n) (hR : fr + 1 ≤ F ∧ 8 + (maxL + 11) + lo ≤ Lo) (hn : As.length = n) (hst : st0 = As.reverse ++ aR (some j) :: st) (hcat : (st.map catA).sum ≤ 8)
    (hdg : decode cc pc = .ok (.invokevirtual index, 3)) : fw_RQ K nL L pc st0 st r L1 c1 s1 := by
  intro ad H locs cells slots ls hW hs hcs hsz
  have has : ∀ v ∈ aR (some j) :: As, okv (lh_z L) v := fun v hv => hs v ((fw_sub1 hst).1 v hv)
  exact va_runU (b := ad j) (As := As.map (cv ad)) (rest := st.map (cv ad)) ⟨hK.x, hK.b, hK.ml, hK.ow, hK.ts⟩ (hC _ hK.fl (kx_G K) ad H.size) (va_cwU n hK.ts hG rfl rfl rfl hyx hd (by rw [hK.fr, hK.lo]; exact hR)) ⟨fw_blind hK.zk, hr ad H locs hW, fun U hU hWm => ⟨rfl, fw_pre_of hK hW has hU hWm⟩⟩ rfl (by rw [List.length_map]; exact hn) hsz (fw_stk hst) (lv_room (fw_cat hcat)) hdg hcs
/-- an overriding method -/
theorem rq_O (hK : Ok K cc nL own F Lo) {As : List AV} {j : Nat} {C owner : String} {x y : MethodName} {bytes b0 : ByteArray} {maxL index fr lo n c1 s1 m0 : Nat} {ret r0 : Option FieldType} {r : Option AV} {L1 : LH} (hr : fw_rcv K L j C)
    (hC : Ct (kx_Z K) y (ws_ y bytes maxL ret) fr lo (aR (some j) :: As) L r L1 c1 s1) (hG : GoodIn lw_all (va_wsO own index C owner x y (ws_ y bytes maxL ret))) (h0 : Cond.code ⟨owner, x.name, x.desc⟩ b0 m0 r0 ∈ lw_all)
    (hd : owner ≠ "java/lang/invoke/MethodHandle" ∧ owner ≠ "java/lang/invoke/VarHandle" ∧ (parseMethodDescriptor x.desc).map (fun d => d.parameters.length) = some n) (hR : fr + 1 ≤ F ∧ 8 + (maxL + 11) + lo ≤ Lo) (hn : As.length = n) (hst : st0 = As.reverse ++ aR (some j) :: st) (hcat : (st.map catA).sum ≤ 8)
    (hdg : decode cc pc = .ok (.invokevirtual index, 3)) : fw_RQ K nL L pc st0 st r L1 c1 s1 := by
  intro ad H locs cells slots ls hW hs hcs hsz
  have has : ∀ v ∈ aR (some j) :: As, okv (lh_z L) v := fun v hv => hs v ((fw_sub1 hst).1 v hv)
  exact va_runU (b := ad j) (As := As.map (cv ad)) (rest := st.map (cv ad)) ⟨hK.x, hK.b, hK.ml, hK.ow, hK.ts⟩ (hC _ hK.fl (kx_G K) ad H.size) (va_cwO n hK.ts hG rfl rfl rfl h0 hd (by rw [hK.fr, hK.lo]; exact hR)) ⟨fw_blind hK.zk, hr ad H locs hW, fun U hU hWm => ⟨rfl, fw_pre_of hK hW has hU hWm⟩⟩ rfl (by rw [List.length_map]; exact hn) hsz (fw_stk hst) (lv_room (fw_cat hcat)) hdg hcs
/-- the reference names an abstract method -/
theorem rq_A (hK : Ok K cc nL own F Lo) {As : List AV} {j : Nat} {C owner : String} {x y : MethodName} {bytes : ByteArray} {maxL index fr lo n c1 s1 : Nat} {ret : Option FieldType} {r : Option AV} {L1 : LH} (hr : fw_rcv K L j C)
    (hC : Ct (kx_Z K) y (ws_ y bytes maxL ret) fr lo (aR (some j) :: As) L r L1 c1 s1) (hG : GoodIn lw_all (va_wsU own index C owner x y (ws_ y bytes maxL ret))) (hz : va_Nw (.declares ⟨owner, x.name, x.desc⟩) (kx_s K))
    (hd : owner ≠ "java/lang/invoke/MethodHandle" ∧ owner ≠ "java/lang/invoke/VarHandle" ∧ (parseMethodDescriptor x.desc).map (fun d => d.parameters.length) = some n) (hR : fr + 1 ≤ F ∧ 8 + (maxL + 11) + lo ≤ Lo) (hn : As.length = n) (hst : st0 = As.reverse ++ aR (some j) :: st) (hcat : (st.map catA).sum ≤ 8)
    (hdg : decode cc pc = .ok (.invokevirtual index, 3)) : fw_RQ K nL L pc st0 st r L1 c1 s1 := by
  intro ad H locs cells slots ls hW hs hcs hsz
  have has : ∀ v ∈ aR (some j) :: As, okv (lh_z L) v := fun v hv => hs v ((fw_sub1 hst).1 v hv)
  exact va_runU (b := ad j) (As := As.map (cv ad)) (rest := st.map (cv ad)) ⟨hK.x, hK.b, hK.ml, hK.ow, hK.ts⟩ (hC _ hK.fl (kx_G K) ad H.size) (va_cwA n hK.ts hG rfl rfl rfl hz hd (by rw [hK.fr, hK.lo]; exact hR)) ⟨fw_blind hK.zk, hr ad H locs hW, fun U hU hWm => ⟨rfl, fw_pre_of hK hW has hU hWm⟩⟩ rfl (by rw [List.length_map]; exact hn) hsz (fw_stk hst) (lv_room (fw_cat hcat)) hdg hcs
/-- super.m(..) -/
theorem rq_SU (hK : Ok K cc nL own F Lo) {As : List AV} {j : Nat} {y : MethodName} {bytes : ByteArray} {maxL index fr lo n c1 s1 : Nat} {ret : Option FieldType} {r : Option AV} {L1 : LH} (hr : fw_rcv K L j own)
    (hC : Ct (kx_Z K) y (ws_ y bytes maxL ret) fr lo (aR (some j) :: As) L r L1 c1 s1) (hG : GoodIn lw_all (va_wsSU own index y (ws_ y bytes maxL ret)))
    (hd : y.name ≠ "<init>" ∧ (parseMethodDescriptor y.desc).map (fun d => d.parameters.length) = some n) (hR : fr + 1 ≤ F ∧ 8 + (maxL + 11) + lo ≤ Lo) (hn : As.length = n) (hst : st0 = As.reverse ++ aR (some j) :: st) (hcat : (st.map catA).sum ≤ 8)
    (hdg : decode cc pc = .ok (.invokespecial index, 3)) : fw_RQ K nL L pc st0 st r L1 c1 s1 := by
  intro ad H locs cells slots ls hW hs hcs hsz
  have has : ∀ v ∈ aR (some j) :: As, okv (lh_z L) v := fun v hv => hs v ((fw_sub1 hst).1 v hv)
  have hsup : (Cond.superclass own y.cls).before (kx_a K) (kx_s K) = true := hK.ts _ (hG _ (by simp [va_wsSU])).1
  obtain ⟨p9, k9, kp9, -, hk9, -, -, hkind, -⟩ := Cond.superclass_spec hK.ow hsup
  exact va_runSU (b := ad j) (As := As.map (cv ad)) (rest := st.map (cv ad)) (⟨hK.ow, k9, hk9, hkind⟩ : ClassAt (kx_s K) own (kx_m K).cls) ⟨hK.x, hK.b, hK.ml, hK.ow, hK.ts⟩ (hC _ hK.fl (kx_G K) ad H.size) (va_cwSU n hK.ts hG rfl rfl rfl hd (by rw [hK.fr, hK.lo]; exact hR)) ⟨fw_blind hK.zk, hr ad H locs hW, fun U hU hWm => ⟨rfl, fw_pre_of hK hW has hU hWm⟩⟩ rfl (by rw [List.length_map]; exact hn) hsz (fw_stk hst) (lv_room (fw_cat hcat)) hdg hcs
/-- a nest mate's private constructor -/
theorem rq_IN (hK : Ok K cc nL own F Lo) {As : List AV} {j : Nat} {host : String} {y : MethodName} {bytes : ByteArray} {maxL index fr lo n c1 s1 : Nat} {r : Option AV} {L1 : LH}
    (hC : Ct (kx_Z K) y (ws_ y bytes maxL none) fr lo (aR (some j) :: As) L r L1 c1 s1) (hG : GoodIn lw_all (ws_ y bytes maxL none)) (hl : va_Nw (.methodLinkNest own index y host) (kx_s K)) (hq1 : Cond.initialized y.cls ∈ lw_all) (hq3 : Cond.instanceMethod y ∈ lw_all) (hy1 : y.name = "<init>")
    (hd : y.cls ≠ "java/lang/invoke/MethodHandle" ∧ y.cls ≠ "java/lang/invoke/VarHandle" ∧ (parseMethodDescriptor y.desc).map (fun d => d.parameters.length) = some n) (hR : fr + 1 ≤ F ∧ 8 + (maxL + 11) + lo ≤ Lo) (hn : As.length = n) (hst : st0 = As.reverse ++ aR (some j) :: st) (hcat : (st.map catA).sum ≤ 8)
    (hdg : decode cc pc = .ok (.invokespecial index, 3)) : fw_RQ K nL L pc st0 st r L1 c1 s1 := by
  intro ad H locs cells slots ls hW hs hcs hsz
  have has : ∀ v ∈ aR (some j) :: As, okv (lh_z L) v := fun v hv => hs v ((fw_sub1 hst).1 v hv)
  exact va_runIN (b := ad j) (As := As.map (cv ad)) (rest := st.map (cv ad)) ⟨hK.x, hK.b, hK.ml, hK.ow, hK.ts⟩ (hC _ hK.fl (kx_G K) ad H.size) ⟨va_cnB n hK.ts hG rfl rfl rfl hl (hK.ts _ hq1) hd (by rw [hK.fr, hK.lo]; exact hR), hy1, hK.ts _ hq3⟩ ⟨fw_blind hK.zk, fun U hU hWm => ⟨rfl, fw_pre_of hK hW has hU hWm⟩⟩ rfl (by rw [List.length_map]; exact hn) hsz (fw_stk hst) (lv_room (fw_cat hcat)) hdg hcs
/-- a method with handlers, that returns -/
theorem rq_VW (hK : Ok K cc nL own F Lo) {As : List AV} {j : Nat} {C : String} {y : MethodName} {bytes : ByteArray} {maxL index fr lo n c1 s1 : Nat} {ret : Option FieldType} {hh : List (Nat × Nat × Nat × Nat)} {r : Option AV} {L1 : LH} (hr : fw_rcv K L j C)
    (hC : Ct (kx_Z K) y (wsW_ y bytes maxL ret hh) fr lo (aR (some j) :: As) L r L1 c1 s1) (hG : GoodIn lw_all (wsV own index C y (wsW_ y bytes maxL ret hh)))
    (hd : y.cls = C ∧ y.cls ≠ "java/lang/invoke/MethodHandle" ∧ y.cls ≠ "java/lang/invoke/VarHandle" ∧ (parseMethodDescriptor y.desc).map (fun d => d.parameters.length) = some n) (hR : fr + 1 ≤ F ∧ 8 + (maxL + 11) + lo ≤ Lo) (hn : As.length = n) (hst : st0 = As.reverse ++ aR (some j) :: st) (hcat : (st.map catA).sum ≤ 8)
    (hdg : decode cc pc = .ok (.invokevirtual index, 3)) : fw_RQ K nL L pc st0 st r L1 c1 s1 := by
  intro ad H locs cells slots ls hW hs hcs hsz
  have has : ∀ v ∈ aR (some j) :: As, okv (lh_z L) v := fun v hv => hs v ((fw_sub1 hst).1 v hv)
  exact vx_runVW (b := ad j) (As := As.map (cv ad)) (rest := st.map (cv ad)) ⟨hK.x, hK.b, hK.ml, hK.ow, hK.ts⟩ (hC _ hK.fl (kx_G K) ad H.size) (vx_cwVW n hK.ts hG rfl rfl rfl hd (by rw [hK.fr, hK.lo]; exact hR)) ⟨fw_blind hK.zk, hr ad H locs hW, fun U hU hWm => ⟨rfl, fw_pre_of hK hW has hU hWm⟩⟩ rfl (by rw [List.length_map]; exact hn) hsz (fw_stk hst) (lv_room (fw_cat hcat)) hdg hcs
theorem fw_sd_c {α : Type} {j : Nat} {a b c : Rs α} {ρ : α × LH × Nat × Nat} {P : Prop} (h : fw_sd j a b c = some ρ) (h1 : j = fw_RO + 1 → a = some ρ → P) (h2 : j = fw_RO + 2 → b = some ρ → P) (h3 : j = fw_RO + 3 → c = some ρ → P) : P := by
  unfold fw_sd at h
  by_cases e1 : j = fw_RO + 1
  · rw [if_pos e1] at h; exact h1 e1 h
  · rw [if_neg e1] at h
    by_cases e2 : j = fw_RO + 2
    · rw [if_pos e2] at h; exact h2 e2 h
    · rw [if_neg e2] at h
      by_cases e3 : j = fw_RO + 3
      · rw [if_pos e3] at h; exact h3 e3 h
      · rw [if_neg e3] at h; cases h
theorem fw_td_c {α : Type} {L : LH} {j : Nat} {a b : Rs α} {ρ : α × LH × Nat × Nat} {P : Prop} (h : fw_td L j a b = some ρ) (h1 : lh_k L j = 2 → a = some ρ → P) (h2 : lh_k L j = 3 → b = some ρ → P) : P := by
  unfold fw_td at h
  by_cases e1 : lh_k L j = 2
  · rw [if_pos e1] at h; exact h1 e1 h
  · rw [if_neg e1] at h
    by_cases e2 : lh_k L j = 3
    · rw [if_pos e2] at h; exact h2 e2 h
    · rw [if_neg e2] at h; cases h
theorem lw_U {idx : Nat} {C owner : String} {x y : MethodName} {b : ByteArray} {n : Nat} {r : Option FieldType} (h1 : Cond.methodLink own idx x ∈ lw_all) (h2 : Cond.sameMethod x.cls owner x.name x.desc ∈ lw_all) (h3 : Cond.selects C x y ∈ lw_all) (h4 : Cond.instanceMethod y ∈ lw_all) (h5 : Cond.initialized y.cls ∈ lw_all) (h6 : Cond.code y b n r ∈ lw_all) : GoodIn lw_all (va_wsU own idx C owner x y (ws_ y b n r)) := by
  refine lw_app ?_ (lw_meth h6)
  intro w hw
  simp only [List.mem_cons, List.not_mem_nil, or_false] at hw
  rcases hw with e | e | e | e | e <;> rw [e] <;> assumption
theorem lw_O {idx : Nat} {C owner : String} {x y : MethodName} {b : ByteArray} {n : Nat} {r : Option FieldType} (h1 : Cond.methodLink own idx x ∈ lw_all) (h2 : Cond.sameMethod x.cls owner x.name x.desc ∈ lw_all) (h0 : Cond.instanceMethod ⟨owner, x.name, x.desc⟩ ∈ lw_all) (h3 : Cond.selects C x y ∈ lw_all) (h4 : Cond.instanceMethod y ∈ lw_all) (h5 : Cond.initialized y.cls ∈ lw_all) (h6 : Cond.code y b n r ∈ lw_all) : GoodIn lw_all (va_wsO own idx C owner x y (ws_ y b n r)) := by
  refine lw_app ?_ (lw_meth h6)
  intro w hw
  simp only [List.mem_cons, List.not_mem_nil, or_false] at hw
  rcases hw with e | e | e | e | e | e <;> rw [e] <;> assumption
theorem lw_SU {idx : Nat} {y : MethodName} {b : ByteArray} {n : Nat} {r : Option FieldType} (h1 : Cond.methodLink own idx y ∈ lw_all) (h2 : Cond.sameMethod y.cls y.cls y.name y.desc ∈ lw_all) (h3 : Cond.superclass own y.cls ∈ lw_all) (h4 : Cond.instanceMethod y ∈ lw_all) (h5 : Cond.initialized y.cls ∈ lw_all) (h6 : Cond.code y b n r ∈ lw_all) : GoodIn lw_all (va_wsSU own idx y (ws_ y b n r)) := by
  refine lw_app ?_ (lw_meth h6)
  intro w hw
  simp only [List.mem_cons, List.not_mem_nil, or_false] at hw
  rcases hw with e | e | e | e | e <;> rw [e] <;> assumption
/-- the contract of a method with handlers that never throws -/
theorem ct_ofH {Z : fw_ZT} (hZ : fw_Zok Z) {y : MethodName} {ret : Option FieldType} {hh : List (Nat × Nat × Nat × Nat)} {args : List AV} {r : Option AV} {L' : LH} (hy : plainName y.cls = true) (ho : y.cls = own) (hlen : fw_slen args ≤ nL)
    (body : ∀ K : Kx, kx_Z K = Z → Ok K cc nL own F Lo → Fin K ret r L' → (kx_me K).name = y.name → AW K L mc ms 0 (fw_args 0 args) []) : Ct Z y (wsW_ y cc nL ret hh) F Lo args L r L' mc ms := by
  intro l hfl G ad sz
  refine MetFree.of_bodyS (code := cc) (maxLocals := nL) (ret := ret) hy ?_ ?_
  · intro args s m h hn
    obtain ⟨m9, meth, c, hn9, h1, h2, h3, h4, -, h5, h6, -⟩ := Cond.codeWith_spec (atoms_spec (ws := wsW_ y cc nL ret hh) h _ List.mem_cons_self)
    cases hn.symm.trans hn9
    exact ⟨meth, c, h1, h2, h3, h4, h5, h6⟩
  · intro p e s m args0 below meth c s₁ B hml hv _
    obtain ⟨rfl, hsz, hP, hD, hKK, hwf, hok, hro, hZ0⟩ := hv
    subst hsz
    have hh0 : s₁.heap = s.heap := by rw [B.state]; rfl
    have hts := atoms_spec (ws := wsW_ y cc nL ret hh) B.pre
    have hts : ∀ w ∈ lw_all, w.before _ s = true := fun w h => hts w (List.mem_cons_of_mem _ h)
    have hown : s.vm.findClass own = some m.cls := by rw [← ho]; exact findClass_of_methodNamed B.named
    have hl := lv_entry (args.map (cv ad)) (n := nL) (by rw [fw_slen_eq]; exact hlen)
    rw [fw_args_eq] at hl
    have key := body (p, l, e, ({ frames := F, cells := mc, slots := ms, locals := Lo } : Room), s, m, (args.map (cv ad)).toArray, below, meth, c, MQ below (fw_Q G ad (lh_z L) (va_A (fw_wl G L ad) s.heap.size) r L') (args.map (cv ad)).toArray s mc ms (va_A (fw_wl G L ad) s.heap.size), va_A (fw_wl G L ad) s.heap.size, G, ad, lh_z L, Z) rfl
      ⟨B.exec, B.bytes, hml, hown, hts, B.notSynchronized, fun q h => Or.inr h, hKK, rfl, rfl, hZ, hZ0, hro, hfl⟩ ⟨B.returns, rfl⟩ (name_of_methodNamed B.named B.method).1
      ad s.heap [] 0 0 _ ⟨hP, hD.self, va_S.rf, fun _ _ => rfl, Nat.le_refl _, hwf⟩ (fw_args_ok _ _ hok) (fun v hv => by cases hv) (Nat.zero_add _) (Nat.zero_add _) (by show lv_has _ c.maxLocals _; rw [hml]; exact hl)
    have e9 := lg_entry_eq m (args.map (cv ad)) nL
    obtain ⟨t, a1, o, b1, b2, b3⟩ := key s₁ hh0 (Stand.of_body B)
    refine ⟨t, o, ?_, b1, b2, ⟨b3.1, b3.2⟩⟩
    rw [e9]
    exact a1
theorem aw_callQ_i {β : Type} (hK : Ok K cc nL own F Lo) {f : Rs (Int32)} {k : (Int32) → LH → Rs β} {b : β} {L9 : LH} (hq : ∀ r L1 c1 s1, f = some (r, L1, c1, s1) → fw_RQ K nL L pc st0 st (some (aI r)) L1 c1 s1) (hst : ∀ v ∈ st, v ∈ st0) (h : fw_cl f k = some (b, L9, mc, ms)) (kk : ∀ r L1 c2 s2, k r L1 = some (b, L9, c2, s2) → AW K L1 c2 s2 (pc + 3) lv (aI r :: st)) : AW K L mc ms pc lv st0 := aw_callQ (rv := fun r => some (aI r)) hK hq hst h kk
theorem aw_callQ_l {β : Type} (hK : Ok K cc nL own F Lo) {f : Rs (Int64)} {k : (Int64) → LH → Rs β} {b : β} {L9 : LH} (hq : ∀ r L1 c1 s1, f = some (r, L1, c1, s1) → fw_RQ K nL L pc st0 st (some (aL r)) L1 c1 s1) (hst : ∀ v ∈ st, v ∈ st0) (h : fw_cl f k = some (b, L9, mc, ms)) (kk : ∀ r L1 c2 s2, k r L1 = some (b, L9, c2, s2) → AW K L1 c2 s2 (pc + 3) lv (aL r :: st)) : AW K L mc ms pc lv st0 := aw_callQ (rv := fun r => some (aL r)) hK hq hst h kk
theorem aw_callQ_r {β : Type} (hK : Ok K cc nL own F Lo) {f : Rs (Option Nat)} {k : (Option Nat) → LH → Rs β} {b : β} {L9 : LH} (hq : ∀ r L1 c1 s1, f = some (r, L1, c1, s1) → fw_RQ K nL L pc st0 st (some (aR r)) L1 c1 s1) (hst : ∀ v ∈ st, v ∈ st0) (h : fw_cl f k = some (b, L9, mc, ms)) (kk : ∀ r L1 c2 s2, k r L1 = some (b, L9, c2, s2) → AW K L1 c2 s2 (pc + 3) lv (aR r :: st)) : AW K L mc ms pc lv st0 := aw_callQ (rv := fun r => some (aR r)) hK hq hst h kk
theorem aw_callQ_v {β : Type} (hK : Ok K cc nL own F Lo) {f : Rs (Unit)} {k : (Unit) → LH → Rs β} {b : β} {L9 : LH} (hq : ∀ r L1 c1 s1, f = some (r, L1, c1, s1) → fw_RQ K nL L pc st0 st none L1 c1 s1) (hst : ∀ v ∈ st, v ∈ st0) (h : fw_cl f k = some (b, L9, mc, ms)) (kk : ∀ r L1 c2 s2, k r L1 = some (b, L9, c2, s2) → AW K L1 c2 s2 (pc + 3) lv (st)) : AW K L mc ms pc lv st0 := aw_callQ (rv := fun _ => none) hK hq hst h kk
theorem fw_mt {n : Nat} {st0 st : List AV} (hd : st0.drop n = st) : ∀ v ∈ st, v ∈ st0 := fun v h => by
  rw [← hd] at h
  exact List.mem_of_mem_drop h
theorem fw_nsW (hK : Ok K cc nL own F Lo) (hZ : fw_isZ K) {w : Cond} (h : w ∈ fw_zw) : va_Nw w (kx_s K) := (fw_zx hK hZ).2.2.2.2.2.1 w h
theorem fw_nsM (hK : Ok K cc nL own F Lo) (hZ : fw_isZ K) {w : Cond} (h : w ∈ fw_zm) : va_Nw w (kx_s K) := (fw_zx hK hZ).2.2.2.2.2.2.1 w h
theorem fw_nsD (hK : Ok K cc nL own F Lo) (hZ : fw_isZ K) {x : MethodName} (h : x ∈ fw_zd) : va_Nw (.declares x) (kx_s K) := (fw_zx hK hZ).2.2.2.2.2.2.2.2.1 x h
theorem aw_nret (hK : Ok K cc nL own F Lo) {x r : Int32} {L9 : LH} {ty : FieldType} (hn : narrow ty (.int x) = .int x) (hdg : decode cc pc = .ok (.ireturn, 1)) (h : (some (x, L, 0, 0) : Rs Int32) = some (r, L9, mc, ms)) (hF : Fin K (some ty) (some (aI r)) L9) : AW K L mc ms pc lv [aI x] := by
  cases h
  intro ad H locs cells slots ls hW hl hs hc hm hv
  have hc : cells = (kx_R K).cells := hc
  have hm : slots = (kx_R K).slots := hm
  rw [hF.2, ← hc, ← hm]
  exact W.zret hK.x hK.b hF.1 hn (fun t ht _ => ⟨⟨ad, rfl, by rw [ht]; exact hW.1, hW.2.1, hW.2.2.2.1, hW.2.2.2.2.1, hW.2.2.2.2.2, fun v hv => by cases hv; trivial⟩, hW.2.2.1.F ht⟩) hW.2.2.1.2.2 hdg hK.lk
theorem fw_czx (hZ : fw_isZ K) {y : MethodName} {ws : List Cond} {fr lo c1 s1 : Nat} {As : List AV} {r : Option AV} {L1 : LH} (h : fw_Cx y ws fr lo As L r L1 c1 s1) : Ct (kx_Z K) y ws fr lo As L r L1 c1 s1 := by
  obtain ⟨b1, b2, e⟩ := hZ
  rw [e]; exact h b1 b2
theorem fw_same (hK : Ok K cc nL own F Lo) {ref owner name desc : String} (h : Cond.sameField ref owner name desc ∈ lw_all) : ∀ x, (kx_s K).fieldFound? owner name desc = some x → (kx_s K).fieldFound? ref name desc = some x := fun x ho => u_same (hK.ts _ h) x ho
theorem fw_no {β : Type} {ρ : β × LH × Nat × Nat} (h : (none : Rs β) = some ρ) : False := by cases h
theorem aw_alv {β : Type} (hK : Ok K cc nL own F Lo) {j : Nat} {k : Int32 → Rs β} {ρ : β × LH × Nat × Nat} (hdg : decode cc pc = .ok (.arraylength, 1)) (h : fw_al L j k = some ρ) (kk : ∀ v, k v = some ρ → AW K L mc ms (pc + 1) lv (aI v :: st)) : AW K L mc ms pc lv (aR (some j) :: st) := aw_alen hK hdg h (fun h => kk _ h)
def fw_iss {β : Type} (j : Nat) (k : Rs β) : Rs β := if fw_RO + 5 ≤ j ∧ j < fw_RO + 9 then k else none
theorem fw_rcvS (hK : Ok K cc nL own F Lo) (hZ : fw_isZ K) {j : Nat} (h : fw_RO + 5 ≤ j ∧ j < fw_RO + 9) : fw_rcv K L j "java/lang/String" := by
  obtain ⟨i, rfl⟩ : ∃ i, j = fw_RO + (5 + i) := ⟨j - (fw_RO + 5), by omega⟩
  exact fw_rcvO hK (((fw_zx hK hZ).2.2.1.1).1 i (by omega)).1
theorem fw_rcvM (hK : Ok K cc nL own F Lo) (hZ : fw_isZ K) : fw_rcv K L (fw_RO + 1) "TugOfWar$Sort" ∧ fw_rcv K L (fw_RO + 2) "TugOfWar$Limber" ∧ fw_rcv K L (fw_RO + 3) "TugOfWar$Anchor" := ⟨fw_rcvO hK (fw_zx hK hZ).1.2.2.1, fw_rcvO hK (fw_zx hK hZ).1.2.2.2.1, fw_rcvO hK (fw_zx hK hZ).1.2.2.2.2⟩
/-- a text's own fields: a team's or a captain's -/
def fw_tI {β : Type} (L : LH) (j s : Nat) (k : Int32 → Rs β) : Rs β := if lh_k L j = 2 ∨ lh_k L j = 3 then k (lh_I L j s) else none
def fw_tR {β : Type} (L : LH) (j s : Nat) (k : Option Nat → Rs β) : Rs β := if lh_k L j = 2 ∨ lh_k L j = 3 then k (lh_R L j s) else none
def fw_tpI {β : Type} (L : LH) (j s : Nat) (v : Int32) (k : LH → Rs β) : Rs β := if lh_k L j = 2 ∨ lh_k L j = 3 then k (lh_sI L j s v) else none
def fw_tpR {β : Type} (L : LH) (j s : Nat) (v : Option Nat) (k : LH → Rs β) : Rs β := if lh_k L j = 2 ∨ lh_k L j = 3 then k (lh_sR L j s v) else none
theorem aw_tI {β : Type} (hK : Ok K cc nL own F Lo) {index : Nat} {ref : String} (s : Nat) (hs0 : s < 5) (hr : fw_ref (tyX2 s) = false) (he : TX3 s = TX2 s) (he2 : tyX3 s = tyX2 s) (hq : Cond.fieldLink own index ref (TX2 s).2.1 (TX2 s).2.2.1 ∈ lw_all) (hsame : ∀ x, (kx_s K).fieldFound? (TX2 s).1 (TX2 s).2.1 (TX2 s).2.2.1 = some x → (kx_s K).fieldFound? ref (TX2 s).2.1 (TX2 s).2.2.1 = some x) {j : Nat} {k : Int32 → Rs β} {ρ : β × LH × Nat × Nat} (hdg : decode cc pc = .ok (.getfield index, 3)) (h : fw_tI L j s k = some ρ) (kk : ∀ v, k v = some ρ → AW K L mc ms (pc + 3) lv (aI v :: st)) : AW K L mc ms pc lv (aR (some j) :: st) := by
  obtain ⟨hk, h'⟩ := fw_if_h h
  rcases hk with hk | hk
  · exact aw_gI hK fw_c1 s (by omega) hr hq hsame hdg (show fw_gI 2 L j s k = some ρ by unfold fw_gI; rw [if_pos hk]; exact h') kk
  · exact aw_gI hK fw_c2 s (by omega) (by show fw_ref (tyX3 s) = false; rw [he2]; exact hr) (by rw [he]; exact hq) (by rw [he]; exact hsame) hdg (show fw_gI 3 L j s k = some ρ by unfold fw_gI; rw [if_pos hk]; exact h') kk
theorem aw_tR {β : Type} (hK : Ok K cc nL own F Lo) {index : Nat} {ref : String} (s : Nat) (hs0 : s < 5) (hr : fw_ref (tyX2 s) = true) (he : TX3 s = TX2 s) (he2 : tyX3 s = tyX2 s) (hq : Cond.fieldLink own index ref (TX2 s).2.1 (TX2 s).2.2.1 ∈ lw_all) (hsame : ∀ x, (kx_s K).fieldFound? (TX2 s).1 (TX2 s).2.1 (TX2 s).2.2.1 = some x → (kx_s K).fieldFound? ref (TX2 s).2.1 (TX2 s).2.2.1 = some x) {j : Nat} {k : Option Nat → Rs β} {ρ : β × LH × Nat × Nat} (hdg : decode cc pc = .ok (.getfield index, 3)) (h : fw_tR L j s k = some ρ) (kk : ∀ v, k v = some ρ → AW K L mc ms (pc + 3) lv (aR v :: st)) : AW K L mc ms pc lv (aR (some j) :: st) := by
  obtain ⟨hk, h'⟩ := fw_if_h h
  rcases hk with hk | hk
  · exact aw_gR hK fw_c1 s (by omega) hr hq hsame hdg (show fw_gR 2 L j s k = some ρ by unfold fw_gR; rw [if_pos hk]; exact h') kk
  · exact aw_gR hK fw_c2 s (by omega) (by show fw_ref (tyX3 s) = true; rw [he2]; exact hr) (by rw [he]; exact hq) (by rw [he]; exact hsame) hdg (show fw_gR 3 L j s k = some ρ by unfold fw_gR; rw [if_pos hk]; exact h') kk
theorem aw_tpI {β : Type} (hK : Ok K cc nL own F Lo) {index : Nat} {ref : String} (s : Nat) (hs0 : s < 5) (hr : fw_ref (tyX2 s) = false) (he : TX3 s = TX2 s) (he2 : tyX3 s = tyX2 s) (hq : Cond.fieldLink own index ref (TX2 s).2.1 (TX2 s).2.2.1 ∈ lw_all) (hsame : ∀ x, (kx_s K).fieldFound? (TX2 s).1 (TX2 s).2.1 (TX2 s).2.2.1 = some x → (kx_s K).fieldFound? ref (TX2 s).2.1 (TX2 s).2.2.1 = some x) (hfin : (TX2 s).2.2.2 = false) {j : Nat} {x : Int32} {k : LH → Rs β} {ρ : β × LH × Nat × Nat} (hna : narrow (tyX2 s) (.int x) = .int x) (hfi : fits (tyX2 s) (.int x) = true) (hdg : decode cc pc = .ok (.putfield index, 3)) (h : fw_tpI L j s x k = some ρ) (kk : ∀ L1, k L1 = some ρ → AW K L1 mc ms (pc + 3) lv st) : AW K L mc ms pc lv (aI x :: aR (some j) :: st) := by
  obtain ⟨hk, h'⟩ := fw_if_h h
  rcases hk with hk | hk
  · exact aw_pI hK fw_c1 s (by omega) hr hq hsame hfin hna hfi hdg (show fw_pI 2 L j s x k = some ρ by unfold fw_pI; rw [if_pos hk]; exact h') kk
  · exact aw_pI hK fw_c2 s (by omega) (by show fw_ref (tyX3 s) = false; rw [he2]; exact hr) (by rw [he]; exact hq) (by rw [he]; exact hsame) (by rw [he]; exact hfin) (by show narrow (tyX3 s) _ = _; rw [he2]; exact hna) (by show fits (tyX3 s) _ = _; rw [he2]; exact hfi) hdg (show fw_pI 3 L j s x k = some ρ by unfold fw_pI; rw [if_pos hk]; exact h') kk
theorem aw_tpRF {β : Type} (hK : Ok K cc nL own F Lo) (hini : (kx_me K).name = "<init>") {index : Nat} {ref : String} (s : Nat) (hs0 : s < 5) (hr : fw_ref (tyX2 s) = true) (he : TX3 s = TX2 s) (he2 : tyX3 s = tyX2 s) (hq : Cond.fieldLink own index ref (TX2 s).2.1 (TX2 s).2.2.1 ∈ lw_all) (hsame : ∀ x, (kx_s K).fieldFound? (TX2 s).1 (TX2 s).2.1 (TX2 s).2.2.1 = some x → (kx_s K).fieldFound? ref (TX2 s).2.1 (TX2 s).2.2.1 = some x) (hfin : (TX2 s).2.2.2 = true) (hdec : (TX2 s).1 = own) {j : Nat} {x : Option Nat} {k : LH → Rs β} {ρ : β × LH × Nat × Nat} (hna : ∀ r : Option Nat, narrow (tyX2 s) (va_rf r) = va_rf r ∧ fits (tyX2 s) (va_rf r) = true) (hdg : decode cc pc = .ok (.putfield index, 3)) (h : fw_tpR L j s x k = some ρ) (kk : ∀ L1, k L1 = some ρ → AW K L1 mc ms (pc + 3) lv st) : AW K L mc ms pc lv (aR x :: aR (some j) :: st) := by
  obtain ⟨hk, h'⟩ := fw_if_h h
  rcases hk with hk | hk
  · exact aw_pRF hK hini fw_c1 s (by omega) hr hq hsame hfin hdec hna hdg (show fw_pR 2 L j s x k = some ρ by unfold fw_pR; rw [if_pos hk]; exact h') kk
  · exact aw_pRF hK hini fw_c2 s (by omega) (by show fw_ref (tyX3 s) = true; rw [he2]; exact hr) (by rw [he]; exact hq) (by rw [he]; exact hsame) (by rw [he]; exact hfin) (by rw [he]; exact hdec) (fun r => by show narrow (tyX3 s) _ = _ ∧ fits (tyX3 s) _ = _; rw [he2]; exact hna r) hdg (show fw_pR 3 L j s x k = some ρ by unfold fw_pR; rw [if_pos hk]; exact h') kk
def fw_max (x y : Int32) : Int32 := if x < y then y else x
def fw_min (x y : Int32) : Int32 := if y < x then y else x
def fw_abs (x : Int32) : Int32 := if 0 ≤ x then x else 0 - x
theorem aw_max (hK : Ok K cc nL own F Lo) {index : Nat} {x y : Int32} (hq1 : Cond.methodLink own index Lib.Math.max.name ∈ lw_all) (hq2 : Cond.static Lib.Math.max.name ∈ lw_all) (hq3 : Cond.initialized "java/lang/Math" ∈ lw_all) (hq4 : Cond.code Lib.Math.max.name Lib.Math.max.code 2 (some .int) ∈ lw_all) (hdg : decode cc pc = .ok (.invokestatic index, 3)) (hF : 1 ≤ F ∧ (st.map catA).sum + 13 ≤ Lo) (kk : AW K L mc ms (pc + 3) lv (aI (fw_max x y) :: st)) : AW K L mc ms pc lv (aI y :: aI x :: st) := by
  intro ad H locs cells slots ls hW hl hs hc hm hv
  have hcat : (((st.map (cv ad)).map fun v => v.category).sum) = (st.map catA).sum := by
    rw [List.map_map]
    congr 2
    funext v
    exact cv_cat ad v
  exact va_mmax hK.x hK.b (by rw [hv.1]) hK.ow (hK.ts _ hq1) (hK.ts _ hq2) (hK.ts _ hq3) (hK.ts _ hq4) (by rw [hK.fr]; exact hF.1) (by rw [hcat, hK.lo]; exact hF.2) (by omega) (by omega) hdg (kk ad H locs cells slots ls hW hl (okI (ok1 (ok1 hs))) hc hm hv)
theorem aw_min (hK : Ok K cc nL own F Lo) {index : Nat} {x y : Int32} (hq1 : Cond.methodLink own index Lib.Math.min.name ∈ lw_all) (hq2 : Cond.static Lib.Math.min.name ∈ lw_all) (hq3 : Cond.initialized "java/lang/Math" ∈ lw_all) (hq4 : Cond.code Lib.Math.min.name Lib.Math.min.code 2 (some .int) ∈ lw_all) (hdg : decode cc pc = .ok (.invokestatic index, 3)) (hF : 1 ≤ F ∧ (st.map catA).sum + 13 ≤ Lo) (kk : AW K L mc ms (pc + 3) lv (aI (fw_min x y) :: st)) : AW K L mc ms pc lv (aI y :: aI x :: st) := by
  intro ad H locs cells slots ls hW hl hs hc hm hv
  have hcat : (((st.map (cv ad)).map fun v => v.category).sum) = (st.map catA).sum := by
    rw [List.map_map]
    congr 2
    funext v
    exact cv_cat ad v
  exact va_mmin hK.x hK.b (by rw [hv.1]) hK.ow (hK.ts _ hq1) (hK.ts _ hq2) (hK.ts _ hq3) (hK.ts _ hq4) (by rw [hK.fr]; exact hF.1) (by rw [hcat, hK.lo]; exact hF.2) (by omega) (by omega) hdg (kk ad H locs cells slots ls hW hl (okI (ok1 (ok1 hs))) hc hm hv)
theorem aw_abs (hK : Ok K cc nL own F Lo) {index : Nat} {x : Int32} (hq1 : Cond.methodLink own index Lib.Math.abs.name ∈ lw_all) (hq2 : Cond.static Lib.Math.abs.name ∈ lw_all) (hq3 : Cond.initialized "java/lang/Math" ∈ lw_all) (hq4 : Cond.code Lib.Math.abs.name Lib.Math.abs.code 1 (some .int) ∈ lw_all) (hdg : decode cc pc = .ok (.invokestatic index, 3)) (hF : 1 ≤ F ∧ (st.map catA).sum + 13 ≤ Lo) (kk : AW K L mc ms (pc + 3) lv (aI (fw_abs x) :: st)) : AW K L mc ms pc lv (aI x :: st) := by
  intro ad H locs cells slots ls hW hl hs hc hm hv
  have hcat : (((st.map (cv ad)).map fun v => v.category).sum) = (st.map catA).sum := by
    rw [List.map_map]
    congr 2
    funext v
    exact cv_cat ad v
  exact va_mabs hK.x hK.b (by rw [hv.1]) hK.ow (hK.ts _ hq1) (hK.ts _ hq2) (hK.ts _ hq3) (hK.ts _ hq4) (by rw [hK.fr]; exact hF.1) (by rw [hcat, hK.lo]; exact hF.2) (by omega) (by omega) hdg (kk ad H locs cells slots ls hW hl (okI (ok1 hs)) hc hm hv)
end RowsQ
