set_option maxRecDepth 100000
section RowsB
variable {K : Kx} {cc : ByteArray} {nL F Lo : Nat} {own : String} {L : LH} {mc ms pc : Nat} {lv : List (Nat × AV)} {st : List AV}
theorem fw_RAn {U : State} {cA : ClassId} {ty : FieldType} (h : va_RA U cA ty) : U.vm.findClass ("[" ++ ty.toString) = some cA := by
  cases ty with
  | object C => obtain ⟨kA, comp, -, -, -, h⟩ := h; exact h
  | _ => exact h
theorem fw_new_at {ad : Nat → Nat} {z q : Nat} (hz : z < fw_RO) {j : Nat} (h : j < z ∨ fw_RO ≤ j) : fw_u1 ad z q j = ad j := fw_u1_ne _ _ (by omega)
theorem fw_new_rfs {L : LH} (hw : fw_wf L) {ad : Nat → Nat} {c n q i : Nat} (hi : i < lh_z L) : fw_rfs (lh_new L c n) (fw_u1 ad (lh_z L) q) i = fw_rfs L ad i := by
  funext x
  unfold fw_rfs
  rw [lh_R_new, fw_u1_ne _ _ (by omega)]
  cases e : lh_R L i x with
  | none => rfl
  | some w => show some _ = some _; rw [fw_new_at hw.2.1 (hw.2.2 _ _ _ e)]
theorem fw_new_ent {G : Gx} {L : LH} (hw : fw_wf L) {ad : Nat → Nat} {c n q i : Nat} (hi : i < lh_z L) : fw_u1 ad (lh_z L) q i = ad i ∧ fw_ent G (lh_new L c n) (fw_u1 ad (lh_z L) q) i = fw_ent G L ad i :=
  ⟨fw_u1_ne _ _ (by omega), fw_ent_congr (by rw [lh_k_new, fw_u1_ne _ _ (by omega)]) (by rw [lh_I_new, fw_u1_ne _ _ (by omega)]) (fw_new_rfs hw hi) (by rw [lh_n_new, fw_u1_ne _ _ (by omega)])⟩
theorem fw_wst.new {L : LH} {ad : Nat → Nat} {H H1 : Heap} {locs : List Loc} (hW : fw_wst K L ad H locs) {c n q : Nat} {e : va_E} (hz : lh_z L + 1 < fw_RO) (he : fw_ent (kx_G K) (lh_new L c n) (fw_u1 ad (lh_z L) q) (lh_z L) = e) (hP : va_P (kx_G K).1 fw_cls (fw_wl (kx_G K) L ad ++ [(q, e)]) H1) (hD : va_D (kx_A K) (fw_wl (kx_G K) L ad ++ [(q, e)])) (hS : va_S (kx_A K) (kx_s K).heap H1 locs) : fw_wst K (lh_new L c n) (fw_u1 ad (lh_z L) q) H1 locs := by
  have e1 : fw_wl (kx_G K) L ad ++ [(q, e)] = fw_wl (kx_G K) (lh_new L c n) (fw_u1 ad (lh_z L) q) := fw_push rfl (fw_u1_self _ _ _) he (fun i hi => fw_new_ent hW.2.2.2.2.2 hi)
  rw [e1] at hP hD
  exact ⟨hP, hD, hS, fun j hj => (fw_new_at hW.2.2.2.2.2.2.1 (hj.imp (fun h => Nat.lt_of_lt_of_le h hW.2.2.2.2.1) (fun h => h))).trans (hW.2.2.2.1 j hj), Nat.le_succ_of_le hW.2.2.2.2.1, hW.2.2.2.2.2.new _ _ hz⟩
theorem fw_new_lv {L : LH} (hw : fw_wf L) {ad : Nat → Nat} {q : Nat} {lv : List (Nat × AV)} (hl : ∀ q ∈ lv, okv (lh_z L) q.2) : fw_lv (fw_u1 ad (lh_z L) q) lv = fw_lv ad lv := fw_lv_agree (fun j hj => fw_new_at hw.2.1 hj) hl
theorem fw_new_st {L : LH} (hw : fw_wf L) {ad : Nat → Nat} {q : Nat} {st : List AV} (hl : ∀ v ∈ st, okv (lh_z L) v) : st.map (cv (fw_u1 ad (lh_z L) q)) = st.map (cv ad) := fw_st_agree (fun j hj => fw_new_at hw.2.1 hj) hl
theorem aw_new {β : Type} (hK : Ok K cc nL own F Lo) {ci N index : Nat} {C : String} {T : u_T} (hc : fw_cF ci C T N) (hq1 : Cond.classLink own index C ∈ lw_all) (hq2 : Cond.instantiable C N ∈ lw_all) (hq3 : Cond.initialized C ∈ lw_all) {k : Nat → LH → Rs β} {b : β} {L9 : LH} (hdg : decode cc pc = .ok (.new index, 3)) (h : fw_nw (ci + 1) N L k = some (b, L9, mc, ms)) (kk : ∀ j L1 c2 s2, k j L1 = some (b, L9, c2, s2) → AW K L1 c2 s2 (pc + 3) lv (aR (some j) :: st)) : AW K L mc ms pc lv st := by
  obtain ⟨hz, h⟩ := fw_if_h h
  obtain ⟨c2, s2, h', rfl, rfl⟩ := fw_aux_h h
  intro ad H locs cells slots ls hW hl hs hcs hms hv
  have hw := hW.2.2.2.2.2
  refine va_new (ci := ci) (fs := (List.range N).map (fun k => if fw_ref (fw_ty ci k) = true then Value.null else .int 0)) hK.x hK.b hK.ts hc.2.1 (fw_ty ci) hc.2.2.2.1 hK.ow (hK.ts _ hq1) (hK.ts _ hq2) (hK.ts _ hq3) hK.hK hW.1 hW.2.1 hW.2.2.1 hK.hA hc.1 (fun j hj => ?_) (by omega) (by omega) hdg (fun q H1 hP hD hS => ?_)
  · unfold vp_V
    rw [hc.2.2.2.2.2.2 j hj, List.getD_eq_getElem?_getD, List.getElem?_map, List.getElem?_range hj]
    rfl
  · have he : fw_ent (kx_G K) (lh_new L (ci + 1) 0) (fw_u1 ad (lh_z L) q) (lh_z L) = .inr (ci, (List.range N).map (fun k => if fw_ref (fw_ty ci k) = true then Value.null else .int 0)) := by
      unfold fw_ent
      have hk : lh_k (lh_new L (ci + 1) 0) (lh_z L) = ci + 1 := by rw [lh_k_new, fw_u1_self]
      have h50 := hc.2.2.2.2.2.1
      rw [hk, if_pos (by omega), Nat.add_sub_cancel]
      unfold fw_flds
      rw [hc.2.2.1]
      congr 3
      funext x
      unfold fw_fld
      rw [lh_R_new, lh_I_new, fw_u1_self, fw_u1_self]
      rfl
    have hW' := hW.new hz he hP hD hS
    have e := kk (lh_z L) (lh_new L (ci + 1) 0) c2 s2 h' (fw_u1 ad (lh_z L) q) H1 locs (cells + 1) (slots + N) ls hW' (fun q hq => okv_mono (Nat.le_succ _) (hl q hq)) (okA (Or.inl (Nat.lt_succ_self _)) (fun v hv => okv_mono (Nat.le_succ _) (hs v hv))) (by omega) (by omega) (by rw [fw_new_lv hw hl]; exact hv)
    have e2 : (aR (some (lh_z L)) :: st).map (cv (fw_u1 ad (lh_z L) q)) = .ref q :: st.map (cv ad) := by
      rw [List.map_cons, fw_new_st hw hs]
      show Value.ref (fw_u1 ad (lh_z L) q (lh_z L)) :: _ = _
      rw [fw_u1_self]
    rw [e2] at e
    exact e
theorem aw_newa {β : Type} (hK : Ok K cc nL own F Lo) (t : Nat) (ht : t < 4) {atype : ArrayType} (hty : newarray.typeOf atype = fw_arr t) (hq : Cond.arrayClass (fw_arr t) ∈ lw_all) {x : Int32} {k : Nat → LH → Rs β} {b : β} {L9 : LH} (hdg : decode cc pc = .ok (.newarray atype, 2)) (h : fw_na (100 + t) x L k = some (b, L9, mc, ms)) (kk : ∀ j L1 c2 s2, k j L1 = some (b, L9, c2, s2) → AW K L1 c2 s2 (pc + 2) lv (aR (some j) :: st)) : AW K L mc ms pc lv (aI x :: st) := by
  obtain ⟨⟨hz, hn0, hn1⟩, h⟩ := fw_if_h h
  obtain ⟨c2, s2, h', rfl, rfl⟩ := fw_aux_h h
  intro ad H locs cells slots ls hW hl hs hcs hms hv
  have hw := hW.2.2.2.2.2
  have hcb : componentBytes (fw_arr t) ≤ 4 := by
    rcases (show t = 0 ∨ t = 1 ∨ t = 2 ∨ t = 3 by omega) with e | e | e | e <;> rw [e] <;> decide
  have hdv : defaultValue (fw_arr t) = .int 0 := by
    rcases (show t = 0 ∨ t = 1 ∨ t = 2 ∨ t = 3 by omega) with e | e | e | e <;> rw [e] <;> rfl
  refine va_newa (ty := fw_arr t) (a0 := (x.toNatClampNeg, .inl (fun _ => 0))) hK.x hK.b (by rw [hty]; exact hK.ts _ hq) hty hK.hK hW.1 hW.2.1 hW.2.2.1 hK.hA (fun cA => by rw [hdv]; rfl) hn0 rfl (Nat.le_trans (Nat.mul_le_mul hn1 hcb) (Nat.le_of_ble_eq_true rfl)) (by omega) (by omega) hdg (fun q cA H1 hKK hP hD hS => ?_)
  have hcA : cA = (kx_G K).2.1 t := by
    have h1 := fw_RAn (hKK.2 11 (cA, fw_arr t) rfl).2
    have h2 := fw_RAn (hK.hK.2 t _ (fw_tysAt (by omega))).2
    exact Option.some.inj (h1.symm.trans h2)
  subst hcA
  have he : fw_ent (kx_G K) (lh_new L (100 + t) x.toNatClampNeg) (fw_u1 ad (lh_z L) q) (lh_z L) = .inl ((kx_G K).2.1 t, x.toNatClampNeg, .inl (fun _ => 0)) := by
    unfold fw_ent
    have hk : lh_k (lh_new L (100 + t) x.toNatClampNeg) (lh_z L) = 100 + t := by rw [lh_k_new, fw_u1_self]
    rw [hk, if_neg (by omega), if_pos (by omega), Nat.add_sub_cancel_left, lh_n_new, lh_I_new, fw_u1_self, fw_u1_self]
  have hW' := hW.new hz he hP hD hS
  have e := kk (lh_z L) (lh_new L (100 + t) x.toNatClampNeg) c2 s2 h' (fw_u1 ad (lh_z L) q) H1 locs (cells + 1) (slots + x.toNatClampNeg) ls hW' (fun q hq => okv_mono (Nat.le_succ _) (hl q hq)) (okA (Or.inl (Nat.lt_succ_self _)) (fun v hv => okv_mono (Nat.le_succ _) (ok1 hs v hv))) (by omega) (by omega) (by rw [fw_new_lv hw hl]; exact hv)
  have e2 : (aR (some (lh_z L)) :: st).map (cv (fw_u1 ad (lh_z L) q)) = .ref q :: st.map (cv ad) := by
    rw [List.map_cons, fw_new_st hw (ok1 hs)]
    show Value.ref (fw_u1 ad (lh_z L) q (lh_z L)) :: _ = _
    rw [fw_u1_self]
  rw [e2] at e
  exact e
/-- the locals at a method's entry -/
def fw_args : Nat → List AV → List (Nat × AV)
  | _, [] => []
  | i, v :: vs => (i, v) :: fw_args (if catA v = 2 then i + 2 else i + 1) vs
theorem fw_args_eq (ad : Nat → Nat) : ∀ (as : List AV) (i : Nat), lv_args i (as.map (cv ad)) = fw_lv ad (fw_args i as)
  | [], _ => rfl
  | v :: vs, i => by
    show (i, cv ad v) :: lv_args (if (cv ad v).category = 2 then i + 2 else i + 1) (vs.map (cv ad)) = (i, cv ad v) :: fw_lv ad (fw_args (if catA v = 2 then i + 2 else i + 1) vs)
    rw [cv_cat, fw_args_eq ad vs]
theorem fw_args_ok {z : Nat} : ∀ (as : List AV) (i : Nat), (∀ v ∈ as, okv z v) → ∀ q ∈ fw_args i as, okv z q.2
  | [], _, _ => fun q h => by cases h
  | v :: vs, i, h => fun q hq => by
    rcases List.mem_cons.mp hq with e | e
    · rw [e]; exact h v List.mem_cons_self
    · exact fw_args_ok vs _ (fun w hw => h w (List.mem_cons_of_mem _ hw)) q e
def fw_slen : List AV → Nat
  | [] => 0
  | v :: vs => (if catA v = 2 then 2 else 1) + fw_slen vs
theorem fw_slen_eq (ad : Nat → Nat) : ∀ as : List AV, (lg_sl (as.map (cv ad))).length = fw_slen as
  | [] => rfl
  | v :: vs => by
    have h := fw_slen_eq ad vs
    unfold lg_sl at h ⊢
    rw [List.map_cons, List.flatMap_cons, List.length_append, h, cv_cat]
    show _ = (if catA v = 2 then 2 else 1) + fw_slen vs
    congr 1
    by_cases q : catA v = 2
    · rw [if_pos q, if_pos q]; rfl
    · rw [if_neg q, if_neg q]; rfl
/-- the contract out of the walk from the entry -/
theorem ct_of {Z : fw_ZT} (hZ : fw_Zok Z) {y : MethodName} {ret : Option FieldType} {args : List AV} {r : Option AV} {L' : LH} (hy : plainName y.cls = true) (ho : y.cls = own) (hlen : fw_slen args ≤ nL)
    (body : ∀ K : Kx, kx_Z K = Z → Ok K cc nL own F Lo → Fin K ret r L' → (kx_me K).name = y.name → AW K L mc ms 0 (fw_args 0 args) []) : Ct Z y (ws_ y cc nL ret) F Lo args L r L' mc ms := by
  intro l hfl G ad sz
  refine Met.ofW (cc := cc) (maxL := nL) (ret := ret) hy rfl ?_
  intro p e s m args0 below meth c s₁ B hml hv
  obtain ⟨rfl, hsz, hP, hD, hKK, hwf, hok, hro, hZ0⟩ := hv
  subst hsz
  have hts := atoms_spec (ws := ws_ y cc nL ret) B.pre
  have hts : ∀ w ∈ lw_all, w.before _ s = true := fun w h => hts w (List.mem_cons_of_mem _ h)
  have hown : s.vm.findClass own = some m.cls := by rw [← ho]; exact findClass_of_methodNamed B.named
  have hl := lv_entry (args.map (cv ad)) (n := nL) (by rw [fw_slen_eq]; exact hlen)
  rw [lg_entry_eq]
  rw [fw_args_eq] at hl
  exact body (p, l, e, ({ frames := F, cells := mc, slots := ms, locals := Lo } : Room), s, m, (args.map (cv ad)).toArray, below, meth, c, MQ below (fw_Q G ad (lh_z L) (va_A (fw_wl G L ad) s.heap.size) r L') (args.map (cv ad)).toArray s mc ms (va_A (fw_wl G L ad) s.heap.size), va_A (fw_wl G L ad) s.heap.size, G, ad, lh_z L, Z) rfl
    ⟨B.exec, B.bytes, hml, hown, hts, B.notSynchronized, fun q h => Or.inr h, hKK, rfl, rfl, hZ, hZ0, hro, hfl⟩ ⟨B.returns, rfl⟩ (name_of_methodNamed B.named B.method).1
    ad s.heap [] 0 0 _ ⟨hP, hD.self, va_S.rf, fun _ _ => rfl, Nat.le_refl _, hwf⟩ (fw_args_ok _ _ hok) (fun v hv => by cases hv) (Nat.zero_add _) (Nat.zero_add _) (by show lv_has _ c.maxLocals _; rw [hml]; exact hl)
theorem aw_objInit (hK : Ok K cc nL own F Lo) {idx : Nat} {j : Nat} (hq1 : Cond.methodLink own idx Lib.objectInit ∈ lw_all) (hq2 : Cond.instanceMethod Lib.objectInit ∈ lw_all) (hq3 : Cond.code Lib.objectInit ⟨#[0xb1]⟩ 1 none ∈ lw_all) (hdg : decode cc pc = .ok (.invokespecial idx, 3)) (hF : 1 ≤ F ∧ 20 ≤ Lo) (hcat : (st.map catA).sum ≤ 8) (kk : AW K L mc ms (pc + 3) lv st) : AW K L mc ms pc lv (aR (some j) :: st) := by
  intro ad H locs cells slots ls hW hl hs hc hm hv
  refine W.objInit (rest := st.map (cv ad)) hK.x hK.b hK.ow (hK.ts _ hq1) (hK.ts _ hq2) (hK.ts _ hq3) rfl hv.1 rfl hdg (by rw [hK.fr]; exact hF.1) ?_ (kk ad H locs cells slots ls hW hl (ok1 hs) hc hm hv)
  have := lv_room (m := kx_m K) (pc := pc) (ls := ls) (rest := ((aR (some j) :: st).map (cv ad))) (fw_cat (ad := ad) hcat)
  rw [hK.lo]
  omega
end RowsB
