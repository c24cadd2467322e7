set_option maxRecDepth 100000
/-! What is thrown: a Torn of the logical heap (its id), or an exception of the machine's own making (its class). -/
abbrev XO : Type := Nat ⊕ String
def fw_xE : XO → String
  | .inl _ => "TugOfWar$Torn"
  | .inr E => E
def fw_XW (G : Gx) (ad0 : Nat → Nat) (z0 : Nat) (A : Nat → Prop) (x : XO) (L' : LH) : Addr → String → State → State → Prop := fun q E st t =>
  E = fw_xE x ∧ (∃ ad : Nat → Nat, va_P G.1 fw_cls (fw_wl G L' ad) t.heap ∧ va_D A (fw_wl G L' ad) ∧ (∀ j, j < z0 ∨ fw_RO ≤ j → ad j = ad0 j) ∧ z0 ≤ lh_z L' ∧ fw_wf L' ∧ ∀ j, x = .inl j → q = ad j ∧ lh_k L' j = 7) ∧ va_F A st t
def fw_QN (G : Gx) (ad0 : Nat → Nat) (z0 : Nat) (A : Nat → Prop) (o : Option AV ⊕ XO) (L' : LH) : Array Value → State → Outcome → State → Prop := match o with
  | .inl r => fw_Q G ad0 z0 A r L'
  | .inr _ => fun _ _ _ _ => False
def fw_QX (G : Gx) (ad0 : Nat → Nat) (z0 : Nat) (A : Nat → Prop) (o : Option AV ⊕ XO) (L' : LH) : Addr → String → State → State → Prop := match o with
  | .inl _ => fun _ _ _ _ => False
  | .inr x => fw_XW G ad0 z0 A x L'
def CtX (Z : fw_ZT) (y : MethodName) (ws : List Cond) (fr lo : Nat) (args : List AV) (L : LH) (o : Option AV ⊕ XO) (L' : LH) (mc ms : Nat) : Prop :=
  ∀ (l : Launch), l.flags = flags0 → ∀ (G : Gx) (ad : Nat → Nat) (sz : Nat), vx_Met l y ws ({ frames := fr, cells := mc, slots := ms, locals := lo } : Room) (va_Pc (args.map (cv ad)) (fun U => U.heap.size = sz ∧ fw_Pre Z G L ad args U)) (fw_QN G ad (lh_z L) (va_A (fw_wl G L ad) sz) o L') (fw_QX G ad (lh_z L) (va_A (fw_wl G L ad) sz) o L') mc ms (va_A (fw_wl G L ad) sz)
def fw_CxX (y : MethodName) (ws : List Cond) (fr lo : Nat) (args : List AV) (L : LH) (o : Option AV ⊕ XO) (L' : LH) (mc ms : Nat) : Prop := ∀ b1 b2 : Bool, CtX (fw_ZX b1 b2) y ws fr lo args L o L' mc ms
def FinX (K : Kx) (ret : Option FieldType) (o : Option AV ⊕ XO) (L' : LH) : Prop :=
  (kx_me K).sig.returnType = ret ∧ kx_Q K = vx_MQ (kx_b K) (fw_QN (kx_G K) (kx_ad K) (kx_z K) (kx_A K) o L') (fw_QX (kx_G K) (kx_ad K) (kx_z K) (kx_A K) o L') (kx_a K) (kx_s K) (kx_R K).cells (kx_R K).slots (kx_A K)
def fw_ox {α : Type} (rv : α → Option AV) : α ⊕ XO → Option AV ⊕ XO
  | .inl a => .inl (rv a)
  | .inr x => .inr x
/-- the frame at pc, with x thrown over it, comes to the end Q -/
def AX (K : Kx) (L : LH) (mc ms pc : Nat) (lv : List (Nat × AV)) (x : XO) : Prop :=
  ∀ (ad : Nat → Nat) (H : Heap) (locs : List Loc) (cells slots : Nat) (ls : Array Slot) (rest : List Value) (q : Nat) (ce : Cell), fw_wst K L ad H locs → (∀ q ∈ lv, okv (lh_z L) q.2) → cells + mc = (kx_R K).cells → slots + ms = (kx_R K).slots → lv_has ls (kx_c K).maxLocals (fw_lv ad lv) → H[q]? = some ce → ce.vm = .none → (kx_s K).vm.findClass (fw_xE x) = some ce.cls → (∀ j, x = .inl j → q = ad j ∧ lh_k L j = 7) →
    vx_W (kx_p K) (kx_l K) (kx_e K) (kx_R K) (kx_s K) (kx_m K) (kx_a K) (kx_b K) (kx_me K) (kx_c K) H locs cells slots (kx_Q K) (F0 (kx_m K) pc ls rest) q
/-- a call that returns or throws -/
def fw_cx {α β : Type} (f : Rs (α ⊕ XO)) (kx : XO → LH → Rs β) (k : α → LH → Rs β) : Rs β := match f with
  | none => none
  | some (.inl r, L, c, s) => (match k r L with
    | none => none
    | some (b, L2, c2, s2) => some (b, L2, c + c2, s + s2))
  | some (.inr x, L, c, s) => (match kx x L with
    | none => none
    | some (b, L2, c2, s2) => some (b, L2, c + c2, s + s2))
theorem fw_cx_h {α β : Type} {f : Rs (α ⊕ XO)} {k : α → LH → Rs β} {kx : XO → LH → Rs β} {b : β} {L9 : LH} {mc ms : Nat} (h : fw_cx f kx k = some (b, L9, mc, ms)) : ∃ o L1 c1 s1 c2 s2, f = some (o, L1, c1, s1) ∧ mc = c1 + c2 ∧ ms = s1 + s2 ∧ (∀ r, o = .inl r → k r L1 = some (b, L9, c2, s2)) ∧ ∀ x, o = .inr x → kx x L1 = some (b, L9, c2, s2) := by
  cases f with
  | none => cases h
  | some w =>
    obtain ⟨o, L1, c1, s1⟩ := w
    cases o with
    | inl r =>
      unfold fw_cx at h
      dsimp only at h
      obtain ⟨c2, s2, h', e1, e2⟩ := fw_aux_h h
      exact ⟨.inl r, L1, c1, s1, c2, s2, rfl, e1, e2, fun r' e => (by cases e; exact h'), fun x e => (by cases e)⟩
    | inr x =>
      unfold fw_cx at h
      dsimp only at h
      obtain ⟨c2, s2, h', e1, e2⟩ := fw_aux_h h
      exact ⟨.inr x, L1, c1, s1, c2, s2, rfl, e1, e2, fun r' e => (by cases e), fun x e => by cases e; exact h'⟩
section RowsZ
variable {K : Kx} {cc : ByteArray} {nL F Lo : Nat} {own : String} {L : LH} {mc ms pc : Nat} {lv : List (Nat × AV)} {st st0 : List AV}
theorem ax_sub {x : XO} {lv' : List (Nat × AV)} (is : List Nat) (hs : is.filterMap (fun i => lv[i]?) = lv') (kk : AX K L mc ms pc lv' x) : AX K L mc ms pc lv x := by
  intro ad H locs cells slots ls rest q ce hW hl hc hm hv
  refine kk ad H locs cells slots ls rest q ce hW (fun q hq => ?_) hc hm ⟨hv.1, hv.2.1, fun q hq => ?_⟩
  · rw [← hs] at hq
    obtain ⟨i, -, hi⟩ := List.mem_filterMap.mp hq
    exact hl q (List.mem_of_getElem? hi)
  · obtain ⟨r, hr, rfl⟩ := List.mem_map.mp hq
    rw [← hs] at hr
    obtain ⟨i, -, hi⟩ := List.mem_filterMap.mp hr
    exact hv.2.2 _ (List.mem_map.mpr ⟨r, List.mem_of_getElem? hi, rfl⟩)
theorem aw_xiret (hK : Ok K cc nL own F Lo) {x : Int32} {o9 : Int32 ⊕ XO} {L9 : LH} (hdg : decode cc pc = .ok (.ireturn, 1)) (h : (some (.inl x, L, 0, 0) : Rs (Int32 ⊕ XO)) = some (o9, L9, mc, ms)) (hF : FinX K (some .int) (fw_ox (fun r => some (aI r)) o9) L9) : AW K L mc ms pc lv [aI x] := by
  cases h
  intro ad H locs cells slots ls hW hl hs hc hm hv
  have hc : cells = (kx_R K).cells := hc
  have hm : slots = (kx_R K).slots := hm
  rw [hF.2, ← hc, ← hm]
  refine vx_ret ?_
  exact W.iret hK.x hK.b hF.1 (fun t ht _ => ⟨⟨ad, rfl, by rw [ht]; exact hW.1, hW.2.1, hW.2.2.2.1, hW.2.2.2.2.1, hW.2.2.2.2.2, fun v hv => by cases hv; trivial⟩, hW.2.2.1.F ht⟩) hW.2.2.1.2.2 hdg hK.lk
theorem aw_xvret (hK : Ok K cc nL own F Lo) {o9 : Unit ⊕ XO} {L9 : LH} (hdg : decode cc pc = .ok (.return_, 1)) (h : (some (.inl (), L, 0, 0) : Rs (Unit ⊕ XO)) = some (o9, L9, mc, ms)) (hF : FinX K none (fw_ox (fun _ => none) o9) L9) : AW K L mc ms pc lv [] := by
  cases h
  intro ad H locs cells slots ls hW hl hs hc hm hv
  have hc : cells = (kx_R K).cells := hc
  have hm : slots = (kx_R K).slots := hm
  rw [hF.2, ← hc, ← hm]
  refine vx_ret ?_
  exact W.vret hK.x hK.b hF.1 (fun t ht _ => ⟨⟨ad, rfl, by rw [ht]; exact hW.1, hW.2.1, hW.2.2.2.1, hW.2.2.2.2.1, hW.2.2.2.2.2, fun v hv => by cases hv⟩, hW.2.2.1.F ht⟩) hW.2.2.1.2.2 hdg hK.lk
theorem aw_xaret (hK : Ok K cc nL own F Lo) {x : Option Nat} {o9 : Option Nat ⊕ XO} {L9 : LH} {rt : FieldType} (hrt : fw_ref rt = true) (hdg : decode cc pc = .ok (.areturn, 1)) (h : (some (.inl x, L, 0, 0) : Rs (Option Nat ⊕ XO)) = some (o9, L9, mc, ms)) (hF : FinX K (some rt) (fw_ox (fun r => some (aR r)) o9) L9) : AW K L mc ms pc lv [aR x] := by
  cases h
  intro ad H locs cells slots ls hW hl hs hc hm hv
  have hc : cells = (kx_R K).cells := hc
  have hm : slots = (kx_R K).slots := hm
  rw [hF.2, ← hc, ← hm]
  refine vx_ret ?_
  refine W.aret (v := va_rf (x.map ad)) hK.x hK.b hF.1 ?_ ?_ (fun t ht _ => ⟨⟨ad, rfl, by rw [ht]; exact hW.1, hW.2.1, hW.2.2.2.1, hW.2.2.2.2.1, hW.2.2.2.2.2, fun v hv => by cases hv; exact ok0 hs⟩, hW.2.2.1.F ht⟩) hW.2.2.1.2.2 hdg hK.lk
  · cases rt with
    | object n => exact Or.inl ⟨n, rfl⟩
    | array t => exact Or.inr ⟨t, rfl⟩
    | _ => cases hrt
  · cases x with
    | none => exact Or.inl rfl
    | some j => exact Or.inr ⟨_, rfl⟩
/-- athrow of a Torn -/
theorem aw_athrow (hK : Ok K cc nL own F Lo) {j : Nat} (hdg : decode cc pc = .ok (.athrow, 1)) (hj : lh_k L j = 7) (kk : AX K L mc ms pc lv (.inl j)) : AW K L mc ms pc lv (aR (some j) :: st) := by
  intro ad H locs cells slots ls hW hl hs hc hm hv
  obtain ⟨r, h1, cell, q1, q2, q3, -⟩ := hW.1 j _ (fw_getO (G := kx_G K) (ad := ad) (ci := 6) hW.2.2.2.2.2 hj (by decide))
  have hcl := (hK.hK.1 6 _ rfl).2
  refine vx_athrow hK.x hK.b hdg (kk ad H locs cells slots ls _ (ad j) cell hW hl hc hm hv q1 q3 ?_ (fun j' e => by cases e; exact ⟨rfl, hj⟩))
  rw [q2]
  exact hcl.1
theorem ax_out (hK : Ok K cc nL own F Lo) (hnt : ∀ x ∈ (kx_c K).exceptionTable.toList, False) {β : Type} {rv : β → Option AV} {ret : Option FieldType} {x : XO} {o9 : β ⊕ XO} {L9 : LH} (h : (some (.inr x, L, 0, 0) : Rs (β ⊕ XO)) = some (o9, L9, mc, ms)) (hF : FinX K ret (fw_ox rv o9) L9) : AX K L mc ms pc lv x := by
  cases h
  intro ad H locs cells slots ls rest q ce hW hl hc hm hv h1 h2 h3 h4
  have hc : cells = (kx_R K).cells := hc
  have hm : slots = (kx_R K).slots := hm
  rw [hF.2]
  exact vx_out (fun x hx => (hnt x hx).elim) hK.lk h1 h2 h3 (fun t ht _ => ⟨rfl, ⟨ad, by rw [ht]; exact hW.1, hW.2.1, hW.2.2.2.1, hW.2.2.2.2.1, hW.2.2.2.2.2, h4⟩, hW.2.2.1.F ht⟩) hW.2.2.1.2.2 (by omega) (by omega)
def fw_RX (K : Kx) (nL : Nat) (L : LH) (pc : Nat) (st0 st : List AV) (o : Option AV ⊕ XO) (L1 : LH) (c1 s1 : Nat) : Prop :=
  ∀ (ad : Nat → Nat) (H : Heap) (locs : List Loc) (cells slots : Nat) (ls : Array Slot), fw_wst K L ad H locs → (∀ v ∈ st0, okv (lh_z L) v) → cells + c1 ≤ (kx_R K).cells ∧ slots + s1 ≤ (kx_R K).slots → ls.size = nL →
    vx_Run (kx_p K) (kx_l K) (kx_e K) (kx_R K) (kx_s K) (kx_m K) (kx_a K) (kx_b K) (kx_me K) (kx_c K) H locs cells slots c1 s1 (F0 (kx_m K) pc ls (st0.map (cv ad))) (st.map (cv ad)) (fw_QN (kx_G K) ad (lh_z L) (va_A (fw_wl (kx_G K) L ad) H.size) o L1 #[]) (fw_QX (kx_G K) ad (lh_z L) (va_A (fw_wl (kx_G K) L ad) H.size) o L1) (va_A (fw_wl (kx_G K) L ad) H.size)
theorem fw_wst.call {L1 : LH} {ad ad' : Nat → Nat} {H : Heap} {locs Lc : List Loc} {st₀ t T' : State} (hK : Ok K cc nL own F Lo) (hW : fw_wst K L ad H locs) (h0 : st₀.heap = H) (e1 : T'.heap = t.heap) (hLc : ∀ q ∈ Lc, va_A (fw_wl (kx_G K) L ad) H.size q.base) (hP : va_P (kx_G K).1 fw_cls (fw_wl (kx_G K) L1 ad') t.heap) (hD : va_D (va_A (fw_wl (kx_G K) L ad) H.size) (fw_wl (kx_G K) L1 ad')) (hag : ∀ j, j < lh_z L ∨ fw_RO ≤ j → ad' j = ad j) (hz : lh_z L ≤ lh_z L1) (hwf : fw_wf L1) (hF : va_F (va_A (fw_wl (kx_G K) L ad) H.size) st₀ t) : fw_wst K L1 ad' T'.heap (locs ++ Lc) := by
  obtain ⟨hz1, hk1⟩ := hF
  rw [h0] at hz1 hk1
  have hAA := fw_wst.AA hK hW
  have hS := hW.2.2.1
  exact ⟨by rw [e1]; exact hP, ⟨hD.1, fun k q hq => hAA _ (hD.2 k q hq)⟩, ⟨Nat.le_trans hS.1 (by rw [e1]; exact hz1), fun q h1 h2 => by rw [e1, hk1 q (Nat.lt_of_lt_of_le h1 hS.1) (fun z => h2 (hAA q z))]; exact hS.2.1 q h1 h2, fun q hq => by
    rcases List.mem_append.mp hq with h | h
    · exact hS.2.2 q h
    · exact hAA _ (hLc q h)⟩, fun j hj => (hag j (hj.imp (fun h => Nat.lt_of_lt_of_le h hW.2.2.2.2.1) (fun h => h))).trans (hW.2.2.2.1 j hj), Nat.le_trans hW.2.2.2.2.1 hz, hwf⟩
theorem aw_callX {α β : Type} (hK : Ok K cc nL own F Lo) {f : Rs (α ⊕ XO)} {rv : α → Option AV} {k : α → LH → Rs β} {kx : XO → LH → Rs β} {b : β} {L9 : LH} (hq : ∀ o L1 c1 s1, f = some (o, L1, c1, s1) → fw_RX K nL L pc st0 st (fw_ox rv o) L1 c1 s1) (hst : ∀ v ∈ st, v ∈ st0) (h : fw_cx f kx k = some (b, L9, mc, ms)) (kX : ∀ x L1 c2 s2, kx x L1 = some (b, L9, c2, s2) → AX K L1 c2 s2 pc lv x) (kk : ∀ r L1 c2 s2, k r L1 = some (b, L9, c2, s2) → AW K L1 c2 s2 (pc + 3) lv ((rv r).toList ++ st)) : AW K L mc ms pc lv st0 := by
  obtain ⟨o, L1, c1, s1, c2, s2, hf, rfl, rfl, hn, hx⟩ := fw_cx_h h
  have hrun := hq o L1 c1 s1 hf
  intro ad H locs cells slots ls hW hl hs hc hm hv T hT X
  have hs1 : ∀ v ∈ st, okv (lh_z L) v := fun v hv => hs v (hst v hv)
  rcases hrun ad H locs cells slots ls hW hs ⟨by omega, by omega⟩ (by rw [hv.1, hK.ml]) T hT X with ⟨v, st₀, t, T', Lc, h0, X', hLc, e1, e2, hQ, go⟩ | ⟨q, st₀, t, T', Lc, E, ce, h0, X', hLc, e1, e2, hQ, hce, hcv, hcl, go⟩
  · cases o with
    | inr x => exact hQ.elim
    | inl r =>
      obtain ⟨⟨ad', hv0, hP, hD, hag, hz, hwf, hok⟩, hF⟩ := hQ
      have hv1 : v = (rv r).map (cv ad') := by injection hv0
      have hW' := hW.call hK h0 e1 hLc hP hD hag hz hwf hF
      obtain ⟨t2, a1, b1⟩ := kk r L1 c2 s2 (hn r rfl) ad' T'.heap (locs ++ Lc) (cells + c1) (slots + s1) ls hW' (fun q hq => okv_mono hz (hl q hq)) (fun v hv => by
        rcases List.mem_append.mp hv with h | h
        · cases hr : rv r with
          | none => rw [hr] at h; cases h
          | some a => rw [hr] at h; rw [List.mem_singleton.mp h]; exact hok a hr
        · exact okv_mono hz (hs1 v h)) (by omega) (by omega) (by rw [fw_lv_agree hag hl]; exact hv) T' rfl X'
      refine ⟨t2, go t2 ?_, b1⟩
      have e : v.toList ++ st.map (cv ad) = ((rv r).toList ++ st).map (cv ad') := by
        rw [hv1, List.map_append, fw_st_agree hag hs1]
        cases rv r <;> rfl
      rw [e]
      exact a1
  · cases o with
    | inl r => exact hQ.elim
    | inr x =>
      obtain ⟨rfl, ⟨ad', hP, hD, hag, hz, hwf, hxq⟩, hF⟩ := hQ
      have hW' := hW.call hK h0 e1 hLc hP hD hag hz hwf hF
      obtain ⟨t2, a1, b1⟩ := kX x L1 c2 s2 (hx x rfl) ad' T'.heap (locs ++ Lc) (cells + c1) (slots + s1) ls (st.map (cv ad)) q ce hW' (fun q hq => okv_mono hz (hl q hq)) (by omega) (by omega) (by rw [fw_lv_agree hag hl]; exact hv) (by rw [e1]; exact hce) hcv hcl hxq T' rfl X'
      exact ⟨t2, go.trans a1, b1⟩
theorem fw_czX (hZ : fw_isZ K) {y : MethodName} {ws : List Cond} {fr lo c1 s1 : Nat} {As : List AV} {o : Option AV ⊕ XO} {L1 : LH} (h : fw_CxX y ws fr lo As L o L1 c1 s1) : CtX (kx_Z K) y ws fr lo As L o L1 c1 s1 := by
  obtain ⟨b1, b2, e⟩ := hZ
  rw [e]; exact h b1 b2
theorem rx_U (hK : Ok K cc nL own F Lo) {As : List AV} {j : Nat} {C owner : String} {x y : MethodName} {bytes : ByteArray} {maxL index fr lo n c1 s1 : Nat} {ret : Option FieldType} {o : Option AV ⊕ XO} {L1 : LH} (hr : fw_rcv K L j C)
    (hC : CtX (kx_Z K) y (ws_ y bytes maxL ret) fr lo (aR (some j) :: As) L o L1 c1 s1) (hG : GoodIn lw_all (va_wsU own index C owner x y (ws_ y bytes maxL ret))) (hyx : y = ⟨owner, x.name, x.desc⟩)
    (hd : owner ≠ "java/lang/invoke/MethodHandle" ∧ owner ≠ "java/lang/invoke/VarHandle" ∧ (parseMethodDescriptor x.desc).map (fun d => d.parameters.length) = some n) (hR : fr + 1 ≤ F ∧ 8 + (maxL + 11) + lo ≤ Lo) (hn : As.length = n) (hst : st0 = As.reverse ++ aR (some j) :: st) (hcat : (st.map catA).sum ≤ 8)
    (hdg : decode cc pc = .ok (.invokevirtual index, 3)) : fw_RX K nL L pc st0 st o L1 c1 s1 := by
  intro ad H locs cells slots ls hW hs hcs hsz
  have has : ∀ v ∈ aR (some j) :: As, okv (lh_z L) v := fun v hv => hs v ((fw_sub1 hst).1 v hv)
  have k := vx_runU (e := kx_e K) (below := kx_b K) (meth := kx_me K) (H := H) (locs := locs) (b := ad j) (As := As.map (cv ad)) (rest := st.map (cv ad)) (g := F0 (kx_m K) pc ls (st0.map (cv ad))) ⟨hK.x, hK.b, hK.ml, hK.ow, hK.ts⟩ (hC _ hK.fl (kx_G K) ad H.size) (va_cwU n hK.ts hG rfl rfl rfl hyx hd (by rw [hK.fr, hK.lo]; exact hR)) ⟨fw_blind hK.zk, hr ad H locs hW, fun U hU hWm => ⟨rfl, fw_pre_of hK hW has hU hWm⟩⟩ rfl (by rw [List.length_map]; exact hn) hsz (fw_stk hst) (lv_room (fw_cat hcat)) hdg hcs
  cases o <;> exact k
theorem rx_O (hK : Ok K cc nL own F Lo) {As : List AV} {j : Nat} {C owner : String} {x y : MethodName} {bytes b0 : ByteArray} {maxL index fr lo n c1 s1 m0 : Nat} {ret r0 : Option FieldType} {o : Option AV ⊕ XO} {L1 : LH} (hr : fw_rcv K L j C)
    (hC : CtX (kx_Z K) y (ws_ y bytes maxL ret) fr lo (aR (some j) :: As) L o L1 c1 s1) (hG : GoodIn lw_all (va_wsO own index C owner x y (ws_ y bytes maxL ret))) (h0 : Cond.code ⟨owner, x.name, x.desc⟩ b0 m0 r0 ∈ lw_all)
    (hd : owner ≠ "java/lang/invoke/MethodHandle" ∧ owner ≠ "java/lang/invoke/VarHandle" ∧ (parseMethodDescriptor x.desc).map (fun d => d.parameters.length) = some n) (hR : fr + 1 ≤ F ∧ 8 + (maxL + 11) + lo ≤ Lo) (hn : As.length = n) (hst : st0 = As.reverse ++ aR (some j) :: st) (hcat : (st.map catA).sum ≤ 8)
    (hdg : decode cc pc = .ok (.invokevirtual index, 3)) : fw_RX K nL L pc st0 st o L1 c1 s1 := by
  intro ad H locs cells slots ls hW hs hcs hsz
  have has : ∀ v ∈ aR (some j) :: As, okv (lh_z L) v := fun v hv => hs v ((fw_sub1 hst).1 v hv)
  have k := vx_runU (e := kx_e K) (below := kx_b K) (meth := kx_me K) (H := H) (locs := locs) (b := ad j) (As := As.map (cv ad)) (rest := st.map (cv ad)) (g := F0 (kx_m K) pc ls (st0.map (cv ad))) ⟨hK.x, hK.b, hK.ml, hK.ow, hK.ts⟩ (hC _ hK.fl (kx_G K) ad H.size) (va_cwO n hK.ts hG rfl rfl rfl h0 hd (by rw [hK.fr, hK.lo]; exact hR)) ⟨fw_blind hK.zk, hr ad H locs hW, fun U hU hWm => ⟨rfl, fw_pre_of hK hW has hU hWm⟩⟩ rfl (by rw [List.length_map]; exact hn) hsz (fw_stk hst) (lv_room (fw_cat hcat)) hdg hcs
  cases o <;> exact k
theorem rx_A (hK : Ok K cc nL own F Lo) {As : List AV} {j : Nat} {C owner : String} {x y : MethodName} {bytes : ByteArray} {maxL index fr lo n c1 s1 : Nat} {ret : Option FieldType} {o : Option AV ⊕ XO} {L1 : LH} (hr : fw_rcv K L j C)
    (hC : CtX (kx_Z K) y (ws_ y bytes maxL ret) fr lo (aR (some j) :: As) L o L1 c1 s1) (hG : GoodIn lw_all (va_wsU own index C owner x y (ws_ y bytes maxL ret))) (hz : va_Nw (.declares ⟨owner, x.name, x.desc⟩) (kx_s K))
    (hd : owner ≠ "java/lang/invoke/MethodHandle" ∧ owner ≠ "java/lang/invoke/VarHandle" ∧ (parseMethodDescriptor x.desc).map (fun d => d.parameters.length) = some n) (hR : fr + 1 ≤ F ∧ 8 + (maxL + 11) + lo ≤ Lo) (hn : As.length = n) (hst : st0 = As.reverse ++ aR (some j) :: st) (hcat : (st.map catA).sum ≤ 8)
    (hdg : decode cc pc = .ok (.invokevirtual index, 3)) : fw_RX K nL L pc st0 st o L1 c1 s1 := by
  intro ad H locs cells slots ls hW hs hcs hsz
  have has : ∀ v ∈ aR (some j) :: As, okv (lh_z L) v := fun v hv => hs v ((fw_sub1 hst).1 v hv)
  have k := vx_runU (e := kx_e K) (below := kx_b K) (meth := kx_me K) (H := H) (locs := locs) (b := ad j) (As := As.map (cv ad)) (rest := st.map (cv ad)) (g := F0 (kx_m K) pc ls (st0.map (cv ad))) ⟨hK.x, hK.b, hK.ml, hK.ow, hK.ts⟩ (hC _ hK.fl (kx_G K) ad H.size) (va_cwA n hK.ts hG rfl rfl rfl hz hd (by rw [hK.fr, hK.lo]; exact hR)) ⟨fw_blind hK.zk, hr ad H locs hW, fun U hU hWm => ⟨rfl, fw_pre_of hK hW has hU hWm⟩⟩ rfl (by rw [List.length_map]; exact hn) hsz (fw_stk hst) (lv_room (fw_cat hcat)) hdg hcs
  cases o <;> exact k
/-- the method that the reference names, the receiver of any class for which it is selected -/
theorem rx_P (hK : Ok K cc nL own F Lo) {As : List AV} {j : Nat} {C : String} {y : MethodName} {bytes : ByteArray} {maxL index fr lo n c1 s1 : Nat} {ret : Option FieldType} {o : Option AV ⊕ XO} {L1 : LH} (hr : fw_rcv K L j C)
    (hC : CtX (kx_Z K) y (ws_ y bytes maxL ret) fr lo (aR (some j) :: As) L o L1 c1 s1) (hG : GoodIn lw_all (ws_ y bytes maxL ret)) (hl : Cond.methodLink own index y ∈ lw_all) (hi : Cond.instanceMethod y ∈ lw_all) (hini : Cond.initialized y.cls ∈ lw_all) (hsel : va_Nw (.selects C y y) (kx_s K))
    (hd : y.cls ≠ "java/lang/invoke/MethodHandle" ∧ y.cls ≠ "java/lang/invoke/VarHandle" ∧ (parseMethodDescriptor y.desc).map (fun d => d.parameters.length) = some n) (hR : fr + 1 ≤ F ∧ 8 + (maxL + 11) + lo ≤ Lo) (hn : As.length = n) (hst : st0 = As.reverse ++ aR (some j) :: st) (hcat : (st.map catA).sum ≤ 8)
    (hdg : decode cc pc = .ok (.invokevirtual index, 3)) : fw_RX K nL L pc st0 st o L1 c1 s1 := by
  intro ad H locs cells slots ls hW hs hcs hsz
  have has : ∀ v ∈ aR (some j) :: As, okv (lh_z L) v := fun v hv => hs v ((fw_sub1 hst).1 v hv)
  have k := vx_runV (e := kx_e K) (below := kx_b K) (meth := kx_me K) (H := H) (locs := locs) (b := ad j) (As := As.map (cv ad)) (rest := st.map (cv ad)) (g := F0 (kx_m K) pc ls (st0.map (cv ad))) ⟨hK.x, hK.b, hK.ml, hK.ow, hK.ts⟩ (hC _ hK.fl (kx_G K) ad H.size) (⟨callB_of n hK.ts hG rfl rfl rfl (hK.ts _ hini) (hK.ts _ hl) hd (by rw [hK.fr, hK.lo]; exact hR), hK.ts _ hi, va_Nw.use rfl hsel⟩ : CallW (kx_R K) (kx_s K) (kx_a K) own C index y bytes maxL ret (ws_ y bytes maxL ret) _ c1 s1 n) ⟨fw_blind hK.zk, hr ad H locs hW, fun U hU hWm => ⟨rfl, fw_pre_of hK hW has hU hWm⟩⟩ rfl (by rw [List.length_map]; exact hn) hsz (fw_stk hst) (lv_room (fw_cat hcat)) hdg hcs
  cases o <;> exact k
/-- a method with handlers that returns, private in a class above the receiver's -/
theorem rq_PW (hK : Ok K cc nL own F Lo) {As : List AV} {j : Nat} {C : String} {y : MethodName} {bytes : ByteArray} {maxL index fr lo n c1 s1 : Nat} {ret : Option FieldType} {hh : List (Nat × Nat × Nat × Nat)} {r : Option AV} {L1 : LH} (hr : fw_rcv K L j C)
    (hC : Ct (kx_Z K) y (wsW_ y bytes maxL ret hh) fr lo (aR (some j) :: As) L r L1 c1 s1) (hG : GoodIn lw_all (wsW_ y bytes maxL ret hh)) (hl : Cond.methodLink own index y ∈ lw_all) (hi : Cond.instanceMethod y ∈ lw_all) (hini : Cond.initialized y.cls ∈ lw_all) (hsel : va_Nw (.selects C y y) (kx_s K))
    (hd : y.cls ≠ "java/lang/invoke/MethodHandle" ∧ y.cls ≠ "java/lang/invoke/VarHandle" ∧ (parseMethodDescriptor y.desc).map (fun d => d.parameters.length) = some n) (hR : fr + 1 ≤ F ∧ 8 + (maxL + 11) + lo ≤ Lo) (hn : As.length = n) (hst : st0 = As.reverse ++ aR (some j) :: st) (hcat : (st.map catA).sum ≤ 8)
    (hdg : decode cc pc = .ok (.invokevirtual index, 3)) : fw_RQ K nL L pc st0 st r L1 c1 s1 := by
  intro ad H locs cells slots ls hW hs hcs hsz
  have has : ∀ v ∈ aR (some j) :: As, okv (lh_z L) v := fun v hv => hs v ((fw_sub1 hst).1 v hv)
  have hlen : ∀ sig, parseMethodDescriptor y.desc = some sig → n = sig.parameters.length := fun sig h => by
    have h2 := hd.2.2
    rw [h] at h2
    exact (Option.some.inj h2).symm
  have hcw : Cond.codeWith y bytes maxL ret hh ∈ wsW_ y bytes maxL ret hh := List.mem_cons_self
  exact vx_runVW (b := ad j) (As := As.map (cv ad)) (rest := st.map (cv ad)) ⟨hK.x, hK.b, hK.ml, hK.ow, hK.ts⟩ (hC _ hK.fl (kx_G K) ad H.size) (⟨⟨rfl, rfl, by rw [hK.fr]; exact hR.1, by rw [hK.lo]; exact hR.2, pay_in hK.ts hG, hcw⟩, hK.ts _ (hG _ hcw).1, hK.ts _ hini, ⟨hd.1, hd.2.1⟩, hlen, hK.ts _ hl, hK.ts _ hi, va_Nw.use rfl hsel⟩ : vx_CVW (kx_R K) (kx_s K) (kx_a K) own C index y bytes maxL ret hh (wsW_ y bytes maxL ret hh) _ c1 s1 n) ⟨fw_blind hK.zk, hr ad H locs hW, fun U hU hWm => ⟨rfl, fw_pre_of hK hW has hU hWm⟩⟩ rfl (by rw [List.length_map]; exact hn) hsz (fw_stk hst) (lv_room (fw_cat hcat)) hdg hcs
/-- caught by the first row of the table: a Torn lies on the stack -/
theorem ax_catch (hK : Ok K cc nL own F Lo) (hZ : fw_isZ K) {j : Nat} {x : ExceptionTableEntry} {suf : List ExceptionTableEntry} {name : String} (htab : (kx_c K).exceptionTable.toList = x :: suf) (hx : covers x pc = true) (h0 : x.catchType ≠ 0) (hq : Cond.classLink own x.catchType name ∈ lw_all) (hcast : ("TugOfWar$Torn", name) ∈ fw_zc) (kk : AW K L mc ms x.handlerPc lv [aR (some j)]) : AX K L mc ms pc lv (.inl j) := by
  intro ad H locs cells slots ls rest q ce hW hl hc hm hv h1 h2 h3 h4
  obtain ⟨rfl, h5⟩ := h4 j rfl
  refine vx_catch hK.ow [] x suf htab (fun z hz => by cases hz) hx h0 (hK.ts _ hq) (va_Nw.use rfl ((fw_zx hK hZ).2.2.2.2.2.2.2.1 _ hcast)) h1 h2 h3 ?_
  have hj : j < lh_z L := hW.2.2.2.2.2.lt (c := 6) h5
  exact kk ad H locs cells slots ls hW hl (okA (Or.inl hj) (fun v hv => by cases hv)) hc hm hv
theorem ctx_of {Z : fw_ZT} (hZ : fw_Zok Z) {y : MethodName} {ret : Option FieldType} {args : List AV} {o : Option AV ⊕ XO} {L' : LH} (hy : plainName y.cls = true) (ho : y.cls = own) (hlen : fw_slen args ≤ nL)
    (body : ∀ K : Kx, kx_Z K = Z → Ok K cc nL own F Lo → FinX K ret o L' → (∀ x ∈ (kx_c K).exceptionTable.toList, False) → AW K L mc ms 0 (fw_args 0 args) []) : CtX Z y (ws_ y cc nL ret) F Lo args L o L' mc ms := by
  intro l hfl G ad sz
  refine vx_ofW (cc := cc) (maxL := nL) (ret := ret) hy rfl ?_
  intro p e s m args0 below meth c s₁ B hml hnt hv
  obtain ⟨rfl, hsz, hP, hD, hKK, hwf, hok, hro, hZ0⟩ := hv
  subst hsz
  have hts := atoms_spec (ws := ws_ y cc nL ret) B.pre
  have hts : ∀ w ∈ lw_all, w.before _ s = true := fun w h => hts w (List.mem_cons_of_mem _ h)
  have hown : s.vm.findClass own = some m.cls := by rw [← ho]; exact findClass_of_methodNamed B.named
  have hl := lv_entry (args.map (cv ad)) (n := nL) (by rw [fw_slen_eq]; exact hlen)
  rw [lg_entry_eq]
  rw [fw_args_eq] at hl
  exact body (p, l, e, ({ frames := F, cells := mc, slots := ms, locals := Lo } : Room), s, m, (args.map (cv ad)).toArray, below, meth, c, vx_MQ below (fw_QN G ad (lh_z L) (va_A (fw_wl G L ad) s.heap.size) o L') (fw_QX G ad (lh_z L) (va_A (fw_wl G L ad) s.heap.size) o L') (args.map (cv ad)).toArray s mc ms (va_A (fw_wl G L ad) s.heap.size), va_A (fw_wl G L ad) s.heap.size, G, ad, lh_z L, Z) rfl
    ⟨B.exec, B.bytes, hml, hown, hts, B.notSynchronized, fun q h => Or.inr h, hKK, rfl, rfl, hZ, hZ0, hro, hfl⟩ ⟨B.returns, rfl⟩ hnt
    ad s.heap [] 0 0 _ ⟨hP, hD.self, va_S.rf, fun _ _ => rfl, Nat.le_refl _, hwf⟩ (fw_args_ok _ _ hok) (fun v hv => by cases hv) (Nat.zero_add _) (Nat.zero_add _) (by show lv_has _ c.maxLocals _; rw [hml]; exact hl)
theorem aw_callX_i {β : Type} (hK : Ok K cc nL own F Lo) {f : Rs (Int32 ⊕ XO)} {k : (Int32) → LH → Rs β} {kx : XO → LH → Rs β} {b : β} {L9 : LH} (hq : ∀ o L1 c1 s1, f = some (o, L1, c1, s1) → fw_RX K nL L pc st0 st (fw_ox (fun r => some (aI r)) o) L1 c1 s1) (hst : ∀ v ∈ st, v ∈ st0) (h : fw_cx f kx k = some (b, L9, mc, ms)) (kX : ∀ x L1 c2 s2, kx x L1 = some (b, L9, c2, s2) → AX K L1 c2 s2 pc lv x) (kk : ∀ r L1 c2 s2, k r L1 = some (b, L9, c2, s2) → AW K L1 c2 s2 (pc + 3) lv (aI r :: st)) : AW K L mc ms pc lv st0 := aw_callX hK hq hst h kX kk
theorem aw_callX_v {β : Type} (hK : Ok K cc nL own F Lo) {f : Rs (Unit ⊕ XO)} {k : (Unit) → LH → Rs β} {kx : XO → LH → Rs β} {b : β} {L9 : LH} (hq : ∀ o L1 c1 s1, f = some (o, L1, c1, s1) → fw_RX K nL L pc st0 st (fw_ox (fun _ => none) o) L1 c1 s1) (hst : ∀ v ∈ st, v ∈ st0) (h : fw_cx f kx k = some (b, L9, mc, ms)) (kX : ∀ x L1 c2 s2, kx x L1 = some (b, L9, c2, s2) → AX K L1 c2 s2 pc lv x) (kk : ∀ r L1 c2 s2, k r L1 = some (b, L9, c2, s2) → AW K L1 c2 s2 (pc + 3) lv (st)) : AW K L mc ms pc lv st0 := aw_callX hK hq hst h kX kk
theorem aw_callX_r {β : Type} (hK : Ok K cc nL own F Lo) {f : Rs (Option Nat ⊕ XO)} {k : (Option Nat) → LH → Rs β} {kx : XO → LH → Rs β} {b : β} {L9 : LH} (hq : ∀ o L1 c1 s1, f = some (o, L1, c1, s1) → fw_RX K nL L pc st0 st (fw_ox (fun r => some (aR r)) o) L1 c1 s1) (hst : ∀ v ∈ st, v ∈ st0) (h : fw_cx f kx k = some (b, L9, mc, ms)) (kX : ∀ x L1 c2 s2, kx x L1 = some (b, L9, c2, s2) → AX K L1 c2 s2 pc lv x) (kk : ∀ r L1 c2 s2, k r L1 = some (b, L9, c2, s2) → AW K L1 c2 s2 (pc + 3) lv (aR r :: st)) : AW K L mc ms pc lv st0 := aw_callX hK hq hst h kX kk
def fw_tj {β : Type} (x : XO) (k : Nat → Rs β) : Rs β := match x with
  | .inl j => k j
  | .inr _ => none
/-- the contract of a method with handlers that never throws: its table rides along -/
theorem ct_ofT {Z : fw_ZT} (hZ : fw_Zok Z) {y : MethodName} {ret : Option FieldType} {hh : List (Nat × Nat × Nat × Nat)} {args : List AV} {r : Option AV} {L' : LH} (hy : plainName y.cls = true) (ho : y.cls = own) (hlen : fw_slen args ≤ nL)
    (body : ∀ K : Kx, kx_Z K = Z → Ok K cc nL own F Lo → Fin K ret r L' → (kx_c K).exceptionTable.toList = tableOf hh → AW K L mc ms 0 (fw_args 0 args) []) : Ct Z y (wsW_ y cc nL ret hh) F Lo args L r L' mc ms := by
  intro l hfl G ad sz
  refine MetFree.of_bodyS (code := cc) (maxLocals := nL) (ret := ret) hy ?_ ?_
  · intro args s m h hn
    obtain ⟨m9, meth, c, hn9, h1, h2, h3, h4, -, h5, h6, -⟩ := Cond.codeWith_spec (atoms_spec (ws := wsW_ y cc nL ret hh) h _ List.mem_cons_self)
    cases hn.symm.trans hn9
    exact ⟨meth, c, h1, h2, h3, h4, h5, h6⟩
  · intro p e s m args0 below meth c s₁ B hml hv _
    obtain ⟨rfl, hsz, hP, hD, hKK, hwf, hok, hro, hZ0⟩ := hv
    subst hsz
    have hh0 : s₁.heap = s.heap := by rw [B.state]; rfl
    have hts0 := atoms_spec (ws := wsW_ y cc nL ret hh) B.pre
    have hts : ∀ w ∈ lw_all, w.before _ s = true := fun w h => hts0 w (List.mem_cons_of_mem _ h)
    have htab : c.exceptionTable.toList = tableOf hh := vx_table (x := y) B (hts0 _ List.mem_cons_self)
    have hown : s.vm.findClass own = some m.cls := by rw [← ho]; exact findClass_of_methodNamed B.named
    have hl := lv_entry (args.map (cv ad)) (n := nL) (by rw [fw_slen_eq]; exact hlen)
    rw [fw_args_eq] at hl
    have key := body (p, l, e, ({ frames := F, cells := mc, slots := ms, locals := Lo } : Room), s, m, (args.map (cv ad)).toArray, below, meth, c, MQ below (fw_Q G ad (lh_z L) (va_A (fw_wl G L ad) s.heap.size) r L') (args.map (cv ad)).toArray s mc ms (va_A (fw_wl G L ad) s.heap.size), va_A (fw_wl G L ad) s.heap.size, G, ad, lh_z L, Z) rfl
      ⟨B.exec, B.bytes, hml, hown, hts, B.notSynchronized, fun q h => Or.inr h, hKK, rfl, rfl, hZ, hZ0, hro, hfl⟩ ⟨B.returns, rfl⟩ htab
      ad s.heap [] 0 0 _ ⟨hP, hD.self, va_S.rf, fun _ _ => rfl, Nat.le_refl _, hwf⟩ (fw_args_ok _ _ hok) (fun v hv => by cases hv) (Nat.zero_add _) (Nat.zero_add _) (by show lv_has _ c.maxLocals _; rw [hml]; exact hl)
    have e9 := lg_entry_eq m (args.map (cv ad)) nL
    obtain ⟨t, a1, o, b1, b2, b3⟩ := key s₁ hh0 (Stand.of_body B)
    refine ⟨t, o, ?_, b1, b2, ⟨b3.1, b3.2⟩⟩
    rw [e9]
    exact a1
theorem fw_nss (hK : Ok K cc nL own F Lo) (hZ : fw_isZ K) {q : String × MethodName} (h : q ∈ fw_zs) : va_Nw (.selects q.1 q.2 q.2) (kx_s K) := (fw_zx hK hZ).2.2.2.2.2.2.2.2.2.2.2 q h
theorem fw_zxb {b1 b2 : Bool} (hK : Ok K cc nL own F Lo) (hZ : kx_Z K = fw_ZX b1 b2) : fw_ZX b1 b2 (kx_G K).2.2 (kx_A K) (kx_s K) (kx_s K).heap := by
  have h := hK.zz
  rw [hZ] at h
  exact h
/-- a static field that holds null or one of the constants -/
def fw_un (b : Bool) (i : Nat) : Option Nat := if b = true then none else some (fw_RO + i)
theorem aw_getsU (hK : Ok K cc nL own F Lo) (b : Bool) (i : Nat) {C n d ref : String} {index : Nat} (hz : fw_zb b C n d ((kx_G K).2.2 i) (kx_A K) (kx_s K) (kx_s K).heap) (hlink : (Cond.fieldLink own index ref n d).before (kx_a K) (kx_s K) = true) (hsame : ∀ x, (kx_s K).fieldFound? C n d = some x → (kx_s K).fieldFound? ref n d = some x) (hdg : decode cc pc = .ok (.getstatic index, 3)) (kk : AW K L mc ms (pc + 3) lv (aR (fw_un b i) :: st)) : AW K L mc ms pc lv st := by
  intro ad H locs cells slots ls hW hl hs hc hm hv
  cases b with
  | true => exact va_gets hK.x hK.b hz hW.2.2.1 hK.ow hlink hsame hdg (kk ad H locs cells slots ls hW hl (okA trivial hs) hc hm hv)
  | false =>
    refine va_gets hK.x hK.b hz hW.2.2.1 hK.ow hlink hsame hdg ?_
    show W _ _ _ _ _ _ _ _ _ _ _ _ _ _ _ (F0 _ _ _ (Value.ref ((kx_G K).2.2 i) :: _))
    rw [← hW.ro hK i]
    exact kk ad H locs cells slots ls hW hl (okA okv_ro hs) hc hm hv
end RowsZ
