set_option maxRecDepth 100000
/-! The judgement AW: 'the method, at pc, with these locals and this stack over this logical heap, comes to its end Q'. -/
/-- facts of what stands from the start and is never written: where it lies, what may be written, state, heap -/
abbrev fw_ZT : Type := (Nat → Nat) → (Nat → Prop) → State → Heap → Prop
abbrev Kx : Type := Program × Launch × Env × Room × State × MethodId × Array Value × List Frame × Method × Code × (State → Prop) × (Nat → Prop) × Gx × (Nat → Nat) × Nat × fw_ZT
abbrev kx_p (K : Kx) : Program := K.1
abbrev kx_l (K : Kx) : Launch := K.2.1
abbrev kx_e (K : Kx) : Env := K.2.2.1
abbrev kx_R (K : Kx) : Room := K.2.2.2.1
abbrev kx_s (K : Kx) : State := K.2.2.2.2.1
abbrev kx_m (K : Kx) : MethodId := K.2.2.2.2.2.1
abbrev kx_a (K : Kx) : Array Value := K.2.2.2.2.2.2.1
abbrev kx_b (K : Kx) : List Frame := K.2.2.2.2.2.2.2.1
abbrev kx_me (K : Kx) : Method := K.2.2.2.2.2.2.2.2.1
abbrev kx_c (K : Kx) : Code := K.2.2.2.2.2.2.2.2.2.1
abbrev kx_Q (K : Kx) : State → Prop := K.2.2.2.2.2.2.2.2.2.2.1
abbrev kx_A (K : Kx) : Nat → Prop := K.2.2.2.2.2.2.2.2.2.2.2.1
abbrev kx_G (K : Kx) : Gx := K.2.2.2.2.2.2.2.2.2.2.2.2.1
abbrev kx_ad (K : Kx) : Nat → Nat := K.2.2.2.2.2.2.2.2.2.2.2.2.2.1
abbrev kx_z (K : Kx) : Nat := K.2.2.2.2.2.2.2.2.2.2.2.2.2.2.1
abbrev kx_Z (K : Kx) : fw_ZT := K.2.2.2.2.2.2.2.2.2.2.2.2.2.2.2
/-- facts of cells that a method may not write: they last -/
def fw_Zok (Z : fw_ZT) : Prop :=
  (∀ (ro : Nat → Nat) (A : Nat → Prop) (u U : State) (H : Heap), U.vm = u.vm → Z ro A u H → Z ro A U H) ∧ (∀ (ro : Nat → Nat) (A : Nat → Prop) (u U : State) (H : Heap), u.WarmedH U.vm → Z ro A u H → Z ro A U H) ∧ (∀ (ro : Nat → Nat) (A : Nat → Prop) (U : State) (H H1 : Heap), (∀ a : Nat, a < H.size → ¬ A a → H1[a]? = H[a]?) → Z ro A U H → Z ro A U H1) ∧ (∀ (ro : Nat → Nat) (A B : Nat → Prop) (U : State) (H : Heap), (∀ q, B q → A q) → Z ro A U H → Z ro B U H)
def fw_wst (K : Kx) (L : LH) (ad : Nat → Nat) (H : Heap) (locs : List Loc) : Prop :=
  va_P (kx_G K).1 fw_cls (fw_wl (kx_G K) L ad) H ∧ va_D (kx_A K) (fw_wl (kx_G K) L ad) ∧ va_S (kx_A K) (kx_s K).heap H locs ∧ (∀ j, j < kx_z K ∨ fw_RO ≤ j → ad j = kx_ad K j) ∧ kx_z K ≤ lh_z L ∧ fw_wf L
def fw_lv (ad : Nat → Nat) (lv : List (Nat × AV)) : List (Nat × Value) := lv.map (fun q => (q.1, cv ad q.2))
def AW (K : Kx) (L : LH) (mc ms pc : Nat) (lv : List (Nat × AV)) (st : List AV) : Prop :=
  ∀ (ad : Nat → Nat) (H : Heap) (locs : List Loc) (cells slots : Nat) (ls : Array Slot), fw_wst K L ad H locs → (∀ q ∈ lv, okv (lh_z L) q.2) → (∀ v ∈ st, okv (lh_z L) v) → cells + mc = (kx_R K).cells → slots + ms = (kx_R K).slots → lv_has ls (kx_c K).maxLocals (fw_lv ad lv) →
    W (kx_p K) (kx_l K) (kx_e K) (kx_R K) (kx_s K) (kx_m K) (kx_a K) (kx_b K) (kx_me K) (kx_c K) H locs cells slots (kx_Q K) (F0 (kx_m K) pc ls (st.map (cv ad)))
def Ok (K : Kx) (cc : ByteArray) (nL : Nat) (own : String) (F Lo : Nat) : Prop :=
  (kx_p K).tables.exec = Jvm.exec ∧ (kx_c K).code = cc ∧ (kx_c K).maxLocals = nL ∧ (kx_s K).vm.findClass own = some (kx_m K).cls ∧ (∀ w ∈ lw_all, w.before (kx_a K) (kx_s K) = true) ∧ (kx_me K).locks = false ∧ (∀ q : Nat, (kx_s K).heap.size ≤ q → kx_A K q) ∧ va_K (kx_G K).1 fw_cls (fw_tys (kx_G K)) (kx_s K) ∧
  (kx_R K).frames = F ∧ (kx_R K).locals = Lo ∧ fw_Zok (kx_Z K) ∧ kx_Z K (kx_G K).2.2 (kx_A K) (kx_s K) (kx_s K).heap ∧ (∀ i, kx_ad K (fw_RO + i) = (kx_G K).2.2 i) ∧ (kx_l K).flags = flags0
theorem Ok.x {K : Kx} {cc : ByteArray} {nL : Nat} {own : String} {F Lo : Nat} (h : Ok K cc nL own F Lo) : (kx_p K).tables.exec = Jvm.exec := h.1
theorem Ok.b {K : Kx} {cc : ByteArray} {nL : Nat} {own : String} {F Lo : Nat} (h : Ok K cc nL own F Lo) : (kx_c K).code = cc := h.2.1
theorem Ok.ml {K : Kx} {cc : ByteArray} {nL : Nat} {own : String} {F Lo : Nat} (h : Ok K cc nL own F Lo) : (kx_c K).maxLocals = nL := h.2.2.1
theorem Ok.ow {K : Kx} {cc : ByteArray} {nL : Nat} {own : String} {F Lo : Nat} (h : Ok K cc nL own F Lo) : (kx_s K).vm.findClass own = some (kx_m K).cls := h.2.2.2.1
theorem Ok.ts {K : Kx} {cc : ByteArray} {nL : Nat} {own : String} {F Lo : Nat} (h : Ok K cc nL own F Lo) : ∀ w ∈ lw_all, w.before (kx_a K) (kx_s K) = true := h.2.2.2.2.1
theorem Ok.lk {K : Kx} {cc : ByteArray} {nL : Nat} {own : String} {F Lo : Nat} (h : Ok K cc nL own F Lo) : (kx_me K).locks = false := h.2.2.2.2.2.1
theorem Ok.hA {K : Kx} {cc : ByteArray} {nL : Nat} {own : String} {F Lo : Nat} (h : Ok K cc nL own F Lo) : ∀ q : Nat, (kx_s K).heap.size ≤ q → kx_A K q := h.2.2.2.2.2.2.1
theorem Ok.hK {K : Kx} {cc : ByteArray} {nL : Nat} {own : String} {F Lo : Nat} (h : Ok K cc nL own F Lo) : va_K (kx_G K).1 fw_cls (fw_tys (kx_G K)) (kx_s K) := h.2.2.2.2.2.2.2.1
theorem Ok.fr {K : Kx} {cc : ByteArray} {nL : Nat} {own : String} {F Lo : Nat} (h : Ok K cc nL own F Lo) : (kx_R K).frames = F := h.2.2.2.2.2.2.2.2.1
theorem Ok.lo {K : Kx} {cc : ByteArray} {nL : Nat} {own : String} {F Lo : Nat} (h : Ok K cc nL own F Lo) : (kx_R K).locals = Lo := h.2.2.2.2.2.2.2.2.2.1
theorem Ok.zk {K : Kx} {cc : ByteArray} {nL : Nat} {own : String} {F Lo : Nat} (h : Ok K cc nL own F Lo) : fw_Zok (kx_Z K) := h.2.2.2.2.2.2.2.2.2.2.1
theorem Ok.zz {K : Kx} {cc : ByteArray} {nL : Nat} {own : String} {F Lo : Nat} (h : Ok K cc nL own F Lo) : kx_Z K (kx_G K).2.2 (kx_A K) (kx_s K) (kx_s K).heap := h.2.2.2.2.2.2.2.2.2.2.2.1
theorem Ok.ro {K : Kx} {cc : ByteArray} {nL : Nat} {own : String} {F Lo : Nat} (h : Ok K cc nL own F Lo) : ∀ i, kx_ad K (fw_RO + i) = (kx_G K).2.2 i := h.2.2.2.2.2.2.2.2.2.2.2.2.1
theorem Ok.fl {K : Kx} {cc : ByteArray} {nL : Nat} {own : String} {F Lo : Nat} (h : Ok K cc nL own F Lo) : (kx_l K).flags = flags0 := h.2.2.2.2.2.2.2.2.2.2.2.2.2
theorem okI {z : Nat} {st : List AV} {x : Int32} (h : ∀ v ∈ st, okv z v) : ∀ v ∈ aI x :: st, okv z v := fun v hv => by
  rcases List.mem_cons.mp hv with e | e
  · rw [e]; trivial
  · exact h v e
theorem okL {z : Nat} {st : List AV} {x : Int64} (h : ∀ v ∈ st, okv z v) : ∀ v ∈ aL x :: st, okv z v := fun v hv => by
  rcases List.mem_cons.mp hv with e | e
  · rw [e]; trivial
  · exact h v e
theorem okA {z : Nat} {st : List AV} {a : AV} (ha : okv z a) (h : ∀ v ∈ st, okv z v) : ∀ v ∈ a :: st, okv z v := fun v hv => by
  rcases List.mem_cons.mp hv with e | e
  · rw [e]; exact ha
  · exact h v e
theorem ok1 {z : Nat} {st : List AV} {a : AV} (h : ∀ v ∈ a :: st, okv z v) : ∀ v ∈ st, okv z v := fun v hv => h v (List.mem_cons_of_mem _ hv)
theorem ok0 {z : Nat} {st : List AV} {a : AV} (h : ∀ v ∈ a :: st, okv z v) : okv z a := h a List.mem_cons_self
theorem fw_lv_at {ad : Nat → Nat} {lv : List (Nat × AV)} {ls : Array Slot} {nL k i : Nat} {v : AV} (h : lv_has ls nL (fw_lv ad lv)) (hk : lv[k]? = some (i, v)) : ls[i]? = some (.val (cv ad v)) :=
  lv_at h k (i := i) (v := cv ad v) (by unfold fw_lv; rw [List.getElem?_map, hk]; rfl)
theorem fw_lv_ok {z : Nat} {lv : List (Nat × AV)} {k i : Nat} {v : AV} (h : ∀ q ∈ lv, okv z q.2) (hk : lv[k]? = some (i, v)) : okv z v := h (i, v) (List.mem_of_getElem? hk)
section RowsA
variable {K : Kx} {cc : ByteArray} {nL F Lo : Nat} {own : String} {L : LH} {mc ms pc : Nat} {lv : List (Nat × AV)} {st : List AV}
/-- fewer locals are known -/
theorem aw_sub {lv' : List (Nat × AV)} (is : List Nat) (hs : is.filterMap (fun i => lv[i]?) = lv') (kk : AW K L mc ms pc lv' st) : AW K L mc ms pc lv st := by
  intro ad H locs cells slots ls hW hl hs0 hc hm hv
  refine kk ad H locs cells slots ls hW (fun q hq => ?_) hs0 hc hm ⟨hv.1, hv.2.1, fun q hq => ?_⟩
  · rw [← hs] at hq
    obtain ⟨i, -, hi⟩ := List.mem_filterMap.mp hq
    exact hl q (List.mem_of_getElem? hi)
  · obtain ⟨r, hr, rfl⟩ := List.mem_map.mp hq
    rw [← hs] at hr
    obtain ⟨i, -, hi⟩ := List.mem_filterMap.mp hr
    exact hv.2.2 _ (List.mem_map.mpr ⟨r, List.mem_of_getElem? hi, rfl⟩)
theorem aw_iconst (hK : Ok K cc nL own F Lo) {n : Int} {v : Int32} (hdg : decode cc pc = .ok (.iconst n, 1)) (hv0 : Int32.ofInt n = v) (kk : AW K L mc ms (pc + 1) lv (aI v :: st)) : AW K L mc ms pc lv (st) :=
  fun ad H locs cells slots ls hW hl hs hc hm hv => lv_iconst hK.x hK.b hdg hv0 (kk ad H locs cells slots ls hW hl (okI hs) hc hm hv)
theorem aw_bipush (hK : Ok K cc nL own F Lo) {n : Int} {v : Int32} (hdg : decode cc pc = .ok (.bipush n, 2)) (hv0 : (Int8.ofInt n).toInt32 = v) (kk : AW K L mc ms (pc + 2) lv (aI v :: st)) : AW K L mc ms pc lv (st) :=
  fun ad H locs cells slots ls hW hl hs hc hm hv => lv_bipush hK.x hK.b hdg hv0 (kk ad H locs cells slots ls hW hl (okI hs) hc hm hv)
theorem aw_sipush (hK : Ok K cc nL own F Lo) {n : Int} {v : Int32} (hdg : decode cc pc = .ok (.sipush n, 3)) (hv0 : (Int16.ofInt n).toInt32 = v) (kk : AW K L mc ms (pc + 3) lv (aI v :: st)) : AW K L mc ms pc lv (st) :=
  fun ad H locs cells slots ls hW hl hs hc hm hv => lv_sipush hK.x hK.b hdg hv0 (kk ad H locs cells slots ls hW hl (okI hs) hc hm hv)
theorem aw_lconst (hK : Ok K cc nL own F Lo) {n : Fin 2} {v : Int64} (hdg : decode cc pc = .ok (.lconst n, 1)) (hv0 : Int64.ofNat (n : Nat) = v) (kk : AW K L mc ms (pc + 1) lv (aL v :: st)) : AW K L mc ms pc lv (st) :=
  fun ad H locs cells slots ls hW hl hs hc hm hv => lv_lconst hK.x hK.b hdg hv0 (kk ad H locs cells slots ls hW hl (okL hs) hc hm hv)
theorem aw_null (hK : Ok K cc nL own F Lo) (hdg : decode cc pc = .ok (.aconst_null, 1)) (kk : AW K L mc ms (pc + 1) lv (aR none :: st)) : AW K L mc ms pc lv (st) :=
  fun ad H locs cells slots ls hW hl hs hc hm hv => lv_null hK.x hK.b hdg (kk ad H locs cells slots ls hW hl (okA okv_N hs) hc hm hv)
theorem aw_ldc (hK : Ok K cc nL own F Lo) {index : Nat} {v : Int32} (hq : Jvm.Cond.constant own index v ∈ lw_all) (hdg : decode cc pc = .ok (.ldc index, 2)) (kk : AW K L mc ms (pc + 2) lv (aI v :: st)) : AW K L mc ms pc lv st :=
  fun ad H locs cells slots ls hW hl hs hc hm hv => lv_ldc hK.x hK.b hK.ow (hK.ts _ hq) hdg (kk ad H locs cells slots ls hW hl (okI hs) hc hm hv)
theorem aw_ldc2 (hK : Ok K cc nL own F Lo) {index : Nat} {v : Int64} (hq : Jvm.Cond.constantLong own index v ∈ lw_all) (hdg : decode cc pc = .ok (.ldc2_w index, 3)) (kk : AW K L mc ms (pc + 3) lv (aL v :: st)) : AW K L mc ms pc lv st :=
  fun ad H locs cells slots ls hW hl hs hc hm hv => lv_ldc2 hK.x hK.b hK.ow (hK.ts _ hq) hdg (kk ad H locs cells slots ls hW hl (okL hs) hc hm hv)
theorem aw_iload_n (hK : Ok K cc nL own F Lo) {k : Fin 4} {i : Nat} {x : Int32} (q : Nat) (hdg : decode cc pc = .ok (.iload_n k, 1)) (hi : (k : Nat) = i) (hq : lv[q]? = some (i, aI x)) (kk : AW K L mc ms (pc + 1) lv (aI x :: st)) : AW K L mc ms pc lv st :=
  fun ad H locs cells slots ls hW hl hs hc hm hv => lv_iload_n hK.x hK.b hdg hi (fw_lv_at hv hq) (kk ad H locs cells slots ls hW hl (okI hs) hc hm hv)
theorem aw_iload (hK : Ok K cc nL own F Lo) {i : Nat} {x : Int32} (q : Nat) (hdg : decode cc pc = .ok (.iload i, 2)) (hq : lv[q]? = some (i, aI x)) (kk : AW K L mc ms (pc + 2) lv (aI x :: st)) : AW K L mc ms pc lv st :=
  fun ad H locs cells slots ls hW hl hs hc hm hv => lv_iload hK.x hK.b hdg (fw_lv_at hv hq) (kk ad H locs cells slots ls hW hl (okI hs) hc hm hv)
theorem aw_lload_n (hK : Ok K cc nL own F Lo) {k : Fin 4} {i : Nat} {x : Int64} (q : Nat) (hdg : decode cc pc = .ok (.lload_n k, 1)) (hi : (k : Nat) = i) (hq : lv[q]? = some (i, aL x)) (kk : AW K L mc ms (pc + 1) lv (aL x :: st)) : AW K L mc ms pc lv st :=
  fun ad H locs cells slots ls hW hl hs hc hm hv => lv_lload_n hK.x hK.b hdg hi (fw_lv_at hv hq) (kk ad H locs cells slots ls hW hl (okL hs) hc hm hv)
theorem aw_lload (hK : Ok K cc nL own F Lo) {i : Nat} {x : Int64} (q : Nat) (hdg : decode cc pc = .ok (.lload i, 2)) (hq : lv[q]? = some (i, aL x)) (kk : AW K L mc ms (pc + 2) lv (aL x :: st)) : AW K L mc ms pc lv st :=
  fun ad H locs cells slots ls hW hl hs hc hm hv => lv_lload hK.x hK.b hdg (fw_lv_at hv hq) (kk ad H locs cells slots ls hW hl (okL hs) hc hm hv)
theorem aw_aload_n (hK : Ok K cc nL own F Lo) {k : Fin 4} {i : Nat} {r : Option Nat} (q : Nat) (hdg : decode cc pc = .ok (.aload_n k, 1)) (hi : (k : Nat) = i) (hq : lv[q]? = some (i, aR r)) (kk : AW K L mc ms (pc + 1) lv (aR r :: st)) : AW K L mc ms pc lv st := by
  intro ad H locs cells slots ls hW hl hs hc hm hv
  have h1 := fw_lv_at hv hq
  have h2 := kk ad H locs cells slots ls hW hl (okA (fw_lv_ok hl hq) hs) hc hm hv
  cases r with
  | none => exact lv_aload_nN hK.x hK.b hdg hi h1 h2
  | some j => exact lv_aload_n hK.x hK.b hdg hi h1 h2
theorem aw_aload (hK : Ok K cc nL own F Lo) {i : Nat} {r : Option Nat} (q : Nat) (hdg : decode cc pc = .ok (.aload i, 2)) (hq : lv[q]? = some (i, aR r)) (kk : AW K L mc ms (pc + 2) lv (aR r :: st)) : AW K L mc ms pc lv st := by
  intro ad H locs cells slots ls hW hl hs hc hm hv
  have h1 := fw_lv_at hv hq
  have h2 := kk ad H locs cells slots ls hW hl (okA (fw_lv_ok hl hq) hs) hc hm hv
  cases r with
  | none => exact lv_aloadN hK.x hK.b hdg  h1 h2
  | some j => exact lv_aload hK.x hK.b hdg  h1 h2
theorem fw_flt {ad : Nat → Nat} {lv lv' : List (Nat × AV)} {i : Nat} {v : AV} (hl : (i, v) :: lv.filter (fun q => !(q.1 == i) && !(q.1 + 1 == i && catA q.2 == 2)) = lv') : (i, cv ad v) :: (fw_lv ad lv).filter (fun q => !(q.1 == i) && !(q.1 + 1 == i && q.2.category == 2)) = fw_lv ad lv' := by
  rw [← hl]
  unfold fw_lv
  rw [List.map_cons, List.filter_map]
  congr 2
  apply List.filter_congr
  intro q _
  simp only [Function.comp, cv_cat]
theorem fw_flt2 {ad : Nat → Nat} {lv lv' : List (Nat × AV)} {i : Nat} {v : AV} (hl : (i, v) :: lv.filter (fun q => !(q.1 == i) && (!(q.1 == i + 1) && !(q.1 + 1 == i && catA q.2 == 2))) = lv') : (i, cv ad v) :: (fw_lv ad lv).filter (fun q => !(q.1 == i) && (!(q.1 == i + 1) && !(q.1 + 1 == i && q.2.category == 2))) = fw_lv ad lv' := by
  rw [← hl]
  unfold fw_lv
  rw [List.map_cons, List.filter_map]
  congr 2
  apply List.filter_congr
  intro q _
  simp only [Function.comp, cv_cat]
theorem fw_flok {z : Nat} {lv lv' : List (Nat × AV)} {i : Nat} {v : AV} {f : Nat × AV → Bool} (h : ∀ q ∈ lv, okv z q.2) (hv : okv z v) (hl : (i, v) :: lv.filter f = lv') : ∀ q ∈ lv', okv z q.2 := by
  intro q hq
  rw [← hl] at hq
  rcases List.mem_cons.mp hq with e | e
  · rw [e]; exact hv
  · exact h q (List.mem_filter.mp e).1
theorem aw_istore_n (hK : Ok K cc nL own F Lo) {k : Fin 4} {i : Nat} {x : Int32} {lv' : List (Nat × AV)} (hdg : decode cc pc = .ok (.istore_n k, 1)) (hi : (k : Nat) = i) (hn : i < nL) (hq : (i, aI x) :: lv.filter (fun q => !(q.1 == i) && !(q.1 + 1 == i && catA q.2 == 2)) = lv') (kk : AW K L mc ms (pc + 1) lv' st) : AW K L mc ms pc lv (aI x :: st) := by
  intro ad H locs cells slots ls hW hl hs hc hm hv
  exact lv_istore_n hK.x hK.b hdg hi hv (by rw [hK.ml]; exact hn) (fw_flt hq) (fun ls' hv' => kk ad H locs cells slots ls' hW (fw_flok hl (ok0 hs) hq) (ok1 hs) hc hm hv')
theorem aw_istore (hK : Ok K cc nL own F Lo) {i : Nat} {x : Int32} {lv' : List (Nat × AV)} (hdg : decode cc pc = .ok (.istore i, 2)) (hn : i < nL) (hq : (i, aI x) :: lv.filter (fun q => !(q.1 == i) && !(q.1 + 1 == i && catA q.2 == 2)) = lv') (kk : AW K L mc ms (pc + 2) lv' st) : AW K L mc ms pc lv (aI x :: st) := by
  intro ad H locs cells slots ls hW hl hs hc hm hv
  exact lv_istore hK.x hK.b hdg  hv (by rw [hK.ml]; exact hn) (fw_flt hq) (fun ls' hv' => kk ad H locs cells slots ls' hW (fw_flok hl (ok0 hs) hq) (ok1 hs) hc hm hv')
theorem aw_lstore_n (hK : Ok K cc nL own F Lo) {k : Fin 4} {i : Nat} {x : Int64} {lv' : List (Nat × AV)} (hdg : decode cc pc = .ok (.lstore_n k, 1)) (hi : (k : Nat) = i) (hn : i + 1 < nL) (hq : (i, aL x) :: lv.filter (fun q => !(q.1 == i) && (!(q.1 == i + 1) && !(q.1 + 1 == i && catA q.2 == 2))) = lv') (kk : AW K L mc ms (pc + 1) lv' st) : AW K L mc ms pc lv (aL x :: st) := by
  intro ad H locs cells slots ls hW hl hs hc hm hv
  exact lv_lstore_n hK.x hK.b hdg hi hv (by rw [hK.ml]; exact hn) (fw_flt2 hq) (fun ls' hv' => kk ad H locs cells slots ls' hW (fw_flok hl (ok0 hs) hq) (ok1 hs) hc hm hv')
theorem aw_lstore (hK : Ok K cc nL own F Lo) {i : Nat} {x : Int64} {lv' : List (Nat × AV)} (hdg : decode cc pc = .ok (.lstore i, 2)) (hn : i + 1 < nL) (hq : (i, aL x) :: lv.filter (fun q => !(q.1 == i) && (!(q.1 == i + 1) && !(q.1 + 1 == i && catA q.2 == 2))) = lv') (kk : AW K L mc ms (pc + 2) lv' st) : AW K L mc ms pc lv (aL x :: st) := by
  intro ad H locs cells slots ls hW hl hs hc hm hv
  exact lv_lstore hK.x hK.b hdg  hv (by rw [hK.ml]; exact hn) (fw_flt2 hq) (fun ls' hv' => kk ad H locs cells slots ls' hW (fw_flok hl (ok0 hs) hq) (ok1 hs) hc hm hv')
theorem aw_astore_n (hK : Ok K cc nL own F Lo) {k : Fin 4} {i : Nat} {x : Option Nat} {lv' : List (Nat × AV)} (hdg : decode cc pc = .ok (.astore_n k, 1)) (hi : (k : Nat) = i) (hn : i < nL) (hq : (i, aR x) :: lv.filter (fun q => !(q.1 == i) && !(q.1 + 1 == i && catA q.2 == 2)) = lv') (kk : AW K L mc ms (pc + 1) lv' st) : AW K L mc ms pc lv (aR x :: st) := by
  intro ad H locs cells slots ls hW hl hs hc hm hv
  cases x with
  | none => exact lv_astore_nN hK.x hK.b hdg hi hv (by rw [hK.ml]; exact hn) (fw_flt hq) (fun ls' hv' => kk ad H locs cells slots ls' hW (fw_flok hl (ok0 hs) hq) (ok1 hs) hc hm hv')
  | some j => exact lv_astore_n hK.x hK.b hdg hi hv (by rw [hK.ml]; exact hn) (fw_flt hq) (fun ls' hv' => kk ad H locs cells slots ls' hW (fw_flok hl (ok0 hs) hq) (ok1 hs) hc hm hv')
theorem aw_astore (hK : Ok K cc nL own F Lo) {i : Nat} {x : Option Nat} {lv' : List (Nat × AV)} (hdg : decode cc pc = .ok (.astore i, 2)) (hn : i < nL) (hq : (i, aR x) :: lv.filter (fun q => !(q.1 == i) && !(q.1 + 1 == i && catA q.2 == 2)) = lv') (kk : AW K L mc ms (pc + 2) lv' st) : AW K L mc ms pc lv (aR x :: st) := by
  intro ad H locs cells slots ls hW hl hs hc hm hv
  cases x with
  | none => exact lv_astoreN hK.x hK.b hdg  hv (by rw [hK.ml]; exact hn) (fw_flt hq) (fun ls' hv' => kk ad H locs cells slots ls' hW (fw_flok hl (ok0 hs) hq) (ok1 hs) hc hm hv')
  | some j => exact lv_astore hK.x hK.b hdg  hv (by rw [hK.ml]; exact hn) (fw_flt hq) (fun ls' hv' => kk ad H locs cells slots ls' hW (fw_flok hl (ok0 hs) hq) (ok1 hs) hc hm hv')
theorem aw_iinc (hK : Ok K cc nL own F Lo) {i : Nat} {n : Int} {x v : Int32} {lv' : List (Nat × AV)} (q : Nat) (hdg : decode cc pc = .ok (.iinc i n, 3)) (hx : lv[q]? = some (i, aI x)) (hv0 : x + Int32.ofInt n = v) (hn : i < nL) (hq : (i, aI v) :: lv.filter (fun q => !(q.1 == i) && !(q.1 + 1 == i && catA q.2 == 2)) = lv') (kk : AW K L mc ms (pc + 3) lv' st) : AW K L mc ms pc lv st := by
  intro ad H locs cells slots ls hW hl hs hc hm hv
  exact lv_iinc (k := q) hK.x hK.b hdg hv (by unfold fw_lv; rw [List.getElem?_map, hx]; rfl) hv0 (by rw [hK.ml]; exact hn) (fw_flt hq) (fun ls' hv' => kk ad H locs cells slots ls' hW (fw_flok hl (okv_I _) hq) hs hc hm hv')
theorem aw_iadd (hK : Ok K cc nL own F Lo) {x y : Int32} (hdg : decode cc pc = .ok (.iadd, 1)) (kk : AW K L mc ms (pc + 1) lv (aI (x + y) :: st)) : AW K L mc ms pc lv (aI y :: aI x :: st) :=
  fun ad H locs cells slots ls hW hl hs hc hm hv => lv_iadd hK.x hK.b hdg (kk ad H locs cells slots ls hW hl (okI (ok1 (ok1 hs))) hc hm hv)
theorem aw_isub (hK : Ok K cc nL own F Lo) {x y : Int32} (hdg : decode cc pc = .ok (.isub, 1)) (kk : AW K L mc ms (pc + 1) lv (aI (x - y) :: st)) : AW K L mc ms pc lv (aI y :: aI x :: st) :=
  fun ad H locs cells slots ls hW hl hs hc hm hv => lv_isub hK.x hK.b hdg (kk ad H locs cells slots ls hW hl (okI (ok1 (ok1 hs))) hc hm hv)
theorem aw_imul (hK : Ok K cc nL own F Lo) {x y : Int32} (hdg : decode cc pc = .ok (.imul, 1)) (kk : AW K L mc ms (pc + 1) lv (aI (x * y) :: st)) : AW K L mc ms pc lv (aI y :: aI x :: st) :=
  fun ad H locs cells slots ls hW hl hs hc hm hv => lv_imul hK.x hK.b hdg (kk ad H locs cells slots ls hW hl (okI (ok1 (ok1 hs))) hc hm hv)
theorem aw_iand (hK : Ok K cc nL own F Lo) {x y : Int32} (hdg : decode cc pc = .ok (.iand, 1)) (kk : AW K L mc ms (pc + 1) lv (aI (x &&& y) :: st)) : AW K L mc ms pc lv (aI y :: aI x :: st) :=
  fun ad H locs cells slots ls hW hl hs hc hm hv => lv_iand hK.x hK.b hdg (kk ad H locs cells slots ls hW hl (okI (ok1 (ok1 hs))) hc hm hv)
theorem aw_ior (hK : Ok K cc nL own F Lo) {x y : Int32} (hdg : decode cc pc = .ok (.ior, 1)) (kk : AW K L mc ms (pc + 1) lv (aI (x ||| y) :: st)) : AW K L mc ms pc lv (aI y :: aI x :: st) :=
  fun ad H locs cells slots ls hW hl hs hc hm hv => lv_ior hK.x hK.b hdg (kk ad H locs cells slots ls hW hl (okI (ok1 (ok1 hs))) hc hm hv)
theorem aw_ixor (hK : Ok K cc nL own F Lo) {x y : Int32} (hdg : decode cc pc = .ok (.ixor, 1)) (kk : AW K L mc ms (pc + 1) lv (aI (x ^^^ y) :: st)) : AW K L mc ms pc lv (aI y :: aI x :: st) :=
  fun ad H locs cells slots ls hW hl hs hc hm hv => lv_ixor hK.x hK.b hdg (kk ad H locs cells slots ls hW hl (okI (ok1 (ok1 hs))) hc hm hv)
theorem aw_ishl (hK : Ok K cc nL own F Lo) {x y : Int32} (hdg : decode cc pc = .ok (.ishl, 1)) (kk : AW K L mc ms (pc + 1) lv (aI (x <<< (y &&& 31)) :: st)) : AW K L mc ms pc lv (aI y :: aI x :: st) :=
  fun ad H locs cells slots ls hW hl hs hc hm hv => lv_ishl hK.x hK.b hdg (kk ad H locs cells slots ls hW hl (okI (ok1 (ok1 hs))) hc hm hv)
theorem aw_ishr (hK : Ok K cc nL own F Lo) {x y : Int32} (hdg : decode cc pc = .ok (.ishr, 1)) (kk : AW K L mc ms (pc + 1) lv (aI (x >>> (y &&& 31)) :: st)) : AW K L mc ms pc lv (aI y :: aI x :: st) :=
  fun ad H locs cells slots ls hW hl hs hc hm hv => lv_ishr hK.x hK.b hdg (kk ad H locs cells slots ls hW hl (okI (ok1 (ok1 hs))) hc hm hv)
theorem aw_idiv (hK : Ok K cc nL own F Lo) {x y : Int32} (hdg : decode cc pc = .ok (.idiv, 1)) (hne : ¬ y = 0) (kk : AW K L mc ms (pc + 1) lv (aI (x / y) :: st)) : AW K L mc ms pc lv (aI y :: aI x :: st) :=
  fun ad H locs cells slots ls hW hl hs hc hm hv => lv_idiv hK.x hK.b hdg hne (kk ad H locs cells slots ls hW hl (okI (ok1 (ok1 hs))) hc hm hv)
theorem aw_irem (hK : Ok K cc nL own F Lo) {x y : Int32} (hdg : decode cc pc = .ok (.irem, 1)) (hne : ¬ y = 0) (kk : AW K L mc ms (pc + 1) lv (aI (x - x / y * y) :: st)) : AW K L mc ms pc lv (aI y :: aI x :: st) :=
  fun ad H locs cells slots ls hW hl hs hc hm hv => lv_irem hK.x hK.b hdg hne (kk ad H locs cells slots ls hW hl (okI (ok1 (ok1 hs))) hc hm hv)
theorem aw_ineg (hK : Ok K cc nL own F Lo) {x : Int32} (hdg : decode cc pc = .ok (.ineg, 1)) (kk : AW K L mc ms (pc + 1) lv (aI (-x) :: st)) : AW K L mc ms pc lv (aI x :: st) :=
  fun ad H locs cells slots ls hW hl hs hc hm hv => lv_ineg hK.x hK.b hdg (kk ad H locs cells slots ls hW hl (okI (ok1 hs)) hc hm hv)
theorem aw_iushr (hK : Ok K cc nL own F Lo) {x y : Int32} (hdg : decode cc pc = .ok (.iushr, 1)) (kk : AW K L mc ms (pc + 1) lv (aI ((x.toUInt32 >>> (y.toUInt32 &&& Int32.toUInt32 31)).toInt32) :: st)) : AW K L mc ms pc lv (aI y :: aI x :: st) :=
  fun ad H locs cells slots ls hW hl hs hc hm hv => lv_iushr hK.x hK.b hdg rfl (kk ad H locs cells slots ls hW hl (okI (ok1 (ok1 hs))) hc hm hv)
theorem aw_ladd (hK : Ok K cc nL own F Lo) {x y : Int64} (hdg : decode cc pc = .ok (.ladd, 1)) (kk : AW K L mc ms (pc + 1) lv (aL (x + y) :: st)) : AW K L mc ms pc lv (aL y :: aL x :: st) :=
  fun ad H locs cells slots ls hW hl hs hc hm hv => lv_ladd hK.x hK.b hdg (kk ad H locs cells slots ls hW hl (okL (ok1 (ok1 hs))) hc hm hv)
theorem aw_lsub (hK : Ok K cc nL own F Lo) {x y : Int64} (hdg : decode cc pc = .ok (.lsub, 1)) (kk : AW K L mc ms (pc + 1) lv (aL (x - y) :: st)) : AW K L mc ms pc lv (aL y :: aL x :: st) :=
  fun ad H locs cells slots ls hW hl hs hc hm hv => lv_lsub hK.x hK.b hdg (kk ad H locs cells slots ls hW hl (okL (ok1 (ok1 hs))) hc hm hv)
theorem aw_lmul (hK : Ok K cc nL own F Lo) {x y : Int64} (hdg : decode cc pc = .ok (.lmul, 1)) (kk : AW K L mc ms (pc + 1) lv (aL (x * y) :: st)) : AW K L mc ms pc lv (aL y :: aL x :: st) :=
  fun ad H locs cells slots ls hW hl hs hc hm hv => lv_lmul hK.x hK.b hdg (kk ad H locs cells slots ls hW hl (okL (ok1 (ok1 hs))) hc hm hv)
theorem aw_ldiv (hK : Ok K cc nL own F Lo) {x y : Int64} (hdg : decode cc pc = .ok (.ldiv, 1)) (hne : ¬ y = 0) (kk : AW K L mc ms (pc + 1) lv (aL (x / y) :: st)) : AW K L mc ms pc lv (aL y :: aL x :: st) :=
  fun ad H locs cells slots ls hW hl hs hc hm hv => lv_ldiv hK.x hK.b hdg hne (kk ad H locs cells slots ls hW hl (okL (ok1 (ok1 hs))) hc hm hv)
theorem aw_lrem (hK : Ok K cc nL own F Lo) {x y : Int64} (hdg : decode cc pc = .ok (.lrem, 1)) (hne : ¬ y = 0) (kk : AW K L mc ms (pc + 1) lv (aL (x - x / y * y) :: st)) : AW K L mc ms pc lv (aL y :: aL x :: st) :=
  fun ad H locs cells slots ls hW hl hs hc hm hv => lv_lrem hK.x hK.b hdg hne (kk ad H locs cells slots ls hW hl (okL (ok1 (ok1 hs))) hc hm hv)
theorem aw_lshl (hK : Ok K cc nL own F Lo) {x : Int64} {y : Int32} (hdg : decode cc pc = .ok (.lshl, 1)) (kk : AW K L mc ms (pc + 1) lv (aL (x <<< (y.toInt64 &&& 63)) :: st)) : AW K L mc ms pc lv (aI y :: aL x :: st) :=
  fun ad H locs cells slots ls hW hl hs hc hm hv => lv_lshl hK.x hK.b hdg rfl (kk ad H locs cells slots ls hW hl (okL (ok1 (ok1 hs))) hc hm hv)
theorem aw_i2l (hK : Ok K cc nL own F Lo) {x : Int32} (hdg : decode cc pc = .ok (.i2l, 1)) (kk : AW K L mc ms (pc + 1) lv (aL x.toInt64 :: st)) : AW K L mc ms pc lv (aI x :: st) :=
  fun ad H locs cells slots ls hW hl hs hc hm hv => lv_i2l hK.x hK.b hdg rfl (kk ad H locs cells slots ls hW hl (okL (ok1 hs)) hc hm hv)
theorem aw_l2i (hK : Ok K cc nL own F Lo) {x : Int64} (hdg : decode cc pc = .ok (.l2i, 1)) (kk : AW K L mc ms (pc + 1) lv (aI x.toInt32 :: st)) : AW K L mc ms pc lv (aL x :: st) :=
  fun ad H locs cells slots ls hW hl hs hc hm hv => lv_l2i hK.x hK.b hdg rfl (kk ad H locs cells slots ls hW hl (okI (ok1 hs)) hc hm hv)
theorem aw_i2b (hK : Ok K cc nL own F Lo) {x : Int32} (hdg : decode cc pc = .ok (.i2b, 1)) (kk : AW K L mc ms (pc + 1) lv (aI x.toInt8.toInt32 :: st)) : AW K L mc ms pc lv (aI x :: st) :=
  fun ad H locs cells slots ls hW hl hs hc hm hv => lv_i2b hK.x hK.b hdg rfl (kk ad H locs cells slots ls hW hl (okI (ok1 hs)) hc hm hv)
theorem aw_i2s (hK : Ok K cc nL own F Lo) {x : Int32} (hdg : decode cc pc = .ok (.i2s, 1)) (kk : AW K L mc ms (pc + 1) lv (aI x.toInt16.toInt32 :: st)) : AW K L mc ms pc lv (aI x :: st) :=
  fun ad H locs cells slots ls hW hl hs hc hm hv => lv_i2s hK.x hK.b hdg rfl (kk ad H locs cells slots ls hW hl (okI (ok1 hs)) hc hm hv)
theorem aw_dup (hK : Ok K cc nL own F Lo) {a : AV} (hdg : decode cc pc = .ok (.dup, 1)) (ha : catA a = 1) (kk : AW K L mc ms (pc + 1) lv (a :: a :: st)) : AW K L mc ms pc lv (a :: st) :=
  fun ad H locs cells slots ls hW hl hs hc hm hv => lv_dup hK.x hK.b hdg (by rw [cv_cat]; exact ha) (kk ad H locs cells slots ls hW hl (okA (ok0 hs) hs) hc hm hv)
theorem aw_dup2 (hK : Ok K cc nL own F Lo) {a b : AV} (hdg : decode cc pc = .ok (.dup2, 1)) (ha : catA a = 1) (hb : catA b = 1) (kk : AW K L mc ms (pc + 1) lv (a :: b :: a :: b :: st)) : AW K L mc ms pc lv (a :: b :: st) :=
  fun ad H locs cells slots ls hW hl hs hc hm hv => lv_dup2_11 hK.x hK.b hdg (by rw [cv_cat]; exact ha) (by rw [cv_cat]; exact hb) (kk ad H locs cells slots ls hW hl (okA (ok0 hs) (okA (ok0 (ok1 hs)) hs)) hc hm hv)
theorem aw_dup_x1 (hK : Ok K cc nL own F Lo) {a b : AV} (hdg : decode cc pc = .ok (.dup_x1, 1)) (ha : catA a = 1) (hb : catA b = 1) (kk : AW K L mc ms (pc + 1) lv (a :: b :: a :: st)) : AW K L mc ms pc lv (a :: b :: st) :=
  fun ad H locs cells slots ls hW hl hs hc hm hv => lv_dup_x1 hK.x hK.b hdg (by rw [cv_cat]; exact ha) (by rw [cv_cat]; exact hb) (kk ad H locs cells slots ls hW hl (okA (ok0 hs) (okA (ok0 (ok1 hs)) (okA (ok0 hs) (ok1 (ok1 hs))))) hc hm hv)
theorem aw_pop (hK : Ok K cc nL own F Lo) {a : AV} (hdg : decode cc pc = .ok (.pop, 1)) (ha : catA a = 1) (kk : AW K L mc ms (pc + 1) lv st) : AW K L mc ms pc lv (a :: st) :=
  fun ad H locs cells slots ls hW hl hs hc hm hv => lv_pop hK.x hK.b hdg (by rw [cv_cat]; exact ha) (kk ad H locs cells slots ls hW hl (ok1 hs) hc hm hv)
theorem aw_goto (hK : Ok K cc nL own F Lo) {off : Int} {tgt : Nat} (hdg : decode cc pc = .ok (.goto off, 3)) (ht : (pc : Int) + off = (tgt : Int)) (kk : AW K L mc ms tgt lv st) : AW K L mc ms pc lv st :=
  fun ad H locs cells slots ls hW hl hs hc hm hv => lv_goto hK.x hK.b hdg ht (kk ad H locs cells slots ls hW hl hs hc hm hv)
/-- the answer of a run of a function: value, heap, cells, slots -/
abbrev Rs (α : Type) : Type := Option (α × LH × Nat × Nat)
theorem aw_if_eq {β : Type} (hK : Ok K cc nL own F Lo) {x : Int32} {off : Int} {tgt : Nat} {A B : Rs β} {ρ : β × LH × Nat × Nat} {hd : Decidable (x = 0)} (hdg : decode cc pc = .ok (.ifCond .eq off, 3)) (ht : (pc : Int) + off = (tgt : Int)) (h : (if x = 0 then A else B) = some ρ) (kt : A = some ρ → AW K L mc ms tgt lv st) (kf : B = some ρ → AW K L mc ms (pc + 3) lv st) : AW K L mc ms pc lv (aI x :: st) := by
  intro ad H locs cells slots ls hW hl hs hc hm hv
  exact lv_if_eq hK.x hK.b hdg ht (fun q => kt (by rw [if_pos q] at h; exact h) ad H locs cells slots ls hW hl (ok1 hs) hc hm hv) (fun q => kf (by rw [if_neg q] at h; exact h) ad H locs cells slots ls hW hl (ok1 hs) hc hm hv)
theorem aw_icmp_eq {β : Type} (hK : Ok K cc nL own F Lo) {x y : Int32} {off : Int} {tgt : Nat} {A B : Rs β} {ρ : β × LH × Nat × Nat} {hd : Decidable (x = y)} (hdg : decode cc pc = .ok (.if_icmp .eq off, 3)) (ht : (pc : Int) + off = (tgt : Int)) (h : (if x = y then A else B) = some ρ) (kt : A = some ρ → AW K L mc ms tgt lv st) (kf : B = some ρ → AW K L mc ms (pc + 3) lv st) : AW K L mc ms pc lv (aI y :: aI x :: st) := by
  intro ad H locs cells slots ls hW hl hs hc hm hv
  exact lv_icmp_eq hK.x hK.b hdg ht (fun q => kt (by rw [if_pos q] at h; exact h) ad H locs cells slots ls hW hl (ok1 (ok1 hs)) hc hm hv) (fun q => kf (by rw [if_neg q] at h; exact h) ad H locs cells slots ls hW hl (ok1 (ok1 hs)) hc hm hv)
theorem aw_if_ne {β : Type} (hK : Ok K cc nL own F Lo) {x : Int32} {off : Int} {tgt : Nat} {A B : Rs β} {ρ : β × LH × Nat × Nat} {hd : Decidable (x = 0)} (hdg : decode cc pc = .ok (.ifCond .ne off, 3)) (ht : (pc : Int) + off = (tgt : Int)) (h : (if x = 0 then A else B) = some ρ) (kt : B = some ρ → AW K L mc ms tgt lv st) (kf : A = some ρ → AW K L mc ms (pc + 3) lv st) : AW K L mc ms pc lv (aI x :: st) := by
  intro ad H locs cells slots ls hW hl hs hc hm hv
  exact lv_if_ne hK.x hK.b hdg ht (fun q => kt (by rw [if_neg q] at h; exact h) ad H locs cells slots ls hW hl (ok1 hs) hc hm hv) (fun q => kf (by rw [if_pos q] at h; exact h) ad H locs cells slots ls hW hl (ok1 hs) hc hm hv)
theorem aw_icmp_ne {β : Type} (hK : Ok K cc nL own F Lo) {x y : Int32} {off : Int} {tgt : Nat} {A B : Rs β} {ρ : β × LH × Nat × Nat} {hd : Decidable (x = y)} (hdg : decode cc pc = .ok (.if_icmp .ne off, 3)) (ht : (pc : Int) + off = (tgt : Int)) (h : (if x = y then A else B) = some ρ) (kt : B = some ρ → AW K L mc ms tgt lv st) (kf : A = some ρ → AW K L mc ms (pc + 3) lv st) : AW K L mc ms pc lv (aI y :: aI x :: st) := by
  intro ad H locs cells slots ls hW hl hs hc hm hv
  exact lv_icmp_ne hK.x hK.b hdg ht (fun q => kt (by rw [if_neg q] at h; exact h) ad H locs cells slots ls hW hl (ok1 (ok1 hs)) hc hm hv) (fun q => kf (by rw [if_pos q] at h; exact h) ad H locs cells slots ls hW hl (ok1 (ok1 hs)) hc hm hv)
theorem aw_if_lt {β : Type} (hK : Ok K cc nL own F Lo) {x : Int32} {off : Int} {tgt : Nat} {A B : Rs β} {ρ : β × LH × Nat × Nat} {hd : Decidable (x < 0)} (hdg : decode cc pc = .ok (.ifCond .lt off, 3)) (ht : (pc : Int) + off = (tgt : Int)) (h : (if x < 0 then A else B) = some ρ) (kt : A = some ρ → AW K L mc ms tgt lv st) (kf : B = some ρ → AW K L mc ms (pc + 3) lv st) : AW K L mc ms pc lv (aI x :: st) := by
  intro ad H locs cells slots ls hW hl hs hc hm hv
  exact lv_if_lt hK.x hK.b hdg ht (fun q => kt (by rw [if_pos q] at h; exact h) ad H locs cells slots ls hW hl (ok1 hs) hc hm hv) (fun q => kf (by rw [if_neg q] at h; exact h) ad H locs cells slots ls hW hl (ok1 hs) hc hm hv)
theorem aw_icmp_lt {β : Type} (hK : Ok K cc nL own F Lo) {x y : Int32} {off : Int} {tgt : Nat} {A B : Rs β} {ρ : β × LH × Nat × Nat} {hd : Decidable (x < y)} (hdg : decode cc pc = .ok (.if_icmp .lt off, 3)) (ht : (pc : Int) + off = (tgt : Int)) (h : (if x < y then A else B) = some ρ) (kt : A = some ρ → AW K L mc ms tgt lv st) (kf : B = some ρ → AW K L mc ms (pc + 3) lv st) : AW K L mc ms pc lv (aI y :: aI x :: st) := by
  intro ad H locs cells slots ls hW hl hs hc hm hv
  exact lv_icmp_lt hK.x hK.b hdg ht (fun q => kt (by rw [if_pos q] at h; exact h) ad H locs cells slots ls hW hl (ok1 (ok1 hs)) hc hm hv) (fun q => kf (by rw [if_neg q] at h; exact h) ad H locs cells slots ls hW hl (ok1 (ok1 hs)) hc hm hv)
theorem aw_if_ge {β : Type} (hK : Ok K cc nL own F Lo) {x : Int32} {off : Int} {tgt : Nat} {A B : Rs β} {ρ : β × LH × Nat × Nat} {hd : Decidable (0 ≤ x)} (hdg : decode cc pc = .ok (.ifCond .ge off, 3)) (ht : (pc : Int) + off = (tgt : Int)) (h : (if 0 ≤ x then A else B) = some ρ) (kt : A = some ρ → AW K L mc ms tgt lv st) (kf : B = some ρ → AW K L mc ms (pc + 3) lv st) : AW K L mc ms pc lv (aI x :: st) := by
  intro ad H locs cells slots ls hW hl hs hc hm hv
  exact lv_if_ge hK.x hK.b hdg ht (fun q => kt (by rw [if_pos q] at h; exact h) ad H locs cells slots ls hW hl (ok1 hs) hc hm hv) (fun q => kf (by rw [if_neg q] at h; exact h) ad H locs cells slots ls hW hl (ok1 hs) hc hm hv)
theorem aw_icmp_ge {β : Type} (hK : Ok K cc nL own F Lo) {x y : Int32} {off : Int} {tgt : Nat} {A B : Rs β} {ρ : β × LH × Nat × Nat} {hd : Decidable (y ≤ x)} (hdg : decode cc pc = .ok (.if_icmp .ge off, 3)) (ht : (pc : Int) + off = (tgt : Int)) (h : (if y ≤ x then A else B) = some ρ) (kt : A = some ρ → AW K L mc ms tgt lv st) (kf : B = some ρ → AW K L mc ms (pc + 3) lv st) : AW K L mc ms pc lv (aI y :: aI x :: st) := by
  intro ad H locs cells slots ls hW hl hs hc hm hv
  exact lv_icmp_ge hK.x hK.b hdg ht (fun q => kt (by rw [if_pos q] at h; exact h) ad H locs cells slots ls hW hl (ok1 (ok1 hs)) hc hm hv) (fun q => kf (by rw [if_neg q] at h; exact h) ad H locs cells slots ls hW hl (ok1 (ok1 hs)) hc hm hv)
theorem aw_if_gt {β : Type} (hK : Ok K cc nL own F Lo) {x : Int32} {off : Int} {tgt : Nat} {A B : Rs β} {ρ : β × LH × Nat × Nat} {hd : Decidable (0 < x)} (hdg : decode cc pc = .ok (.ifCond .gt off, 3)) (ht : (pc : Int) + off = (tgt : Int)) (h : (if 0 < x then A else B) = some ρ) (kt : A = some ρ → AW K L mc ms tgt lv st) (kf : B = some ρ → AW K L mc ms (pc + 3) lv st) : AW K L mc ms pc lv (aI x :: st) := by
  intro ad H locs cells slots ls hW hl hs hc hm hv
  exact lv_if_gt hK.x hK.b hdg ht (fun q => kt (by rw [if_pos q] at h; exact h) ad H locs cells slots ls hW hl (ok1 hs) hc hm hv) (fun q => kf (by rw [if_neg q] at h; exact h) ad H locs cells slots ls hW hl (ok1 hs) hc hm hv)
theorem aw_icmp_gt {β : Type} (hK : Ok K cc nL own F Lo) {x y : Int32} {off : Int} {tgt : Nat} {A B : Rs β} {ρ : β × LH × Nat × Nat} {hd : Decidable (y < x)} (hdg : decode cc pc = .ok (.if_icmp .gt off, 3)) (ht : (pc : Int) + off = (tgt : Int)) (h : (if y < x then A else B) = some ρ) (kt : A = some ρ → AW K L mc ms tgt lv st) (kf : B = some ρ → AW K L mc ms (pc + 3) lv st) : AW K L mc ms pc lv (aI y :: aI x :: st) := by
  intro ad H locs cells slots ls hW hl hs hc hm hv
  exact lv_icmp_gt hK.x hK.b hdg ht (fun q => kt (by rw [if_pos q] at h; exact h) ad H locs cells slots ls hW hl (ok1 (ok1 hs)) hc hm hv) (fun q => kf (by rw [if_neg q] at h; exact h) ad H locs cells slots ls hW hl (ok1 (ok1 hs)) hc hm hv)
theorem aw_if_le {β : Type} (hK : Ok K cc nL own F Lo) {x : Int32} {off : Int} {tgt : Nat} {A B : Rs β} {ρ : β × LH × Nat × Nat} {hd : Decidable (x ≤ 0)} (hdg : decode cc pc = .ok (.ifCond .le off, 3)) (ht : (pc : Int) + off = (tgt : Int)) (h : (if x ≤ 0 then A else B) = some ρ) (kt : A = some ρ → AW K L mc ms tgt lv st) (kf : B = some ρ → AW K L mc ms (pc + 3) lv st) : AW K L mc ms pc lv (aI x :: st) := by
  intro ad H locs cells slots ls hW hl hs hc hm hv
  exact lv_if_le hK.x hK.b hdg ht (fun q => kt (by rw [if_pos q] at h; exact h) ad H locs cells slots ls hW hl (ok1 hs) hc hm hv) (fun q => kf (by rw [if_neg q] at h; exact h) ad H locs cells slots ls hW hl (ok1 hs) hc hm hv)
theorem aw_icmp_le {β : Type} (hK : Ok K cc nL own F Lo) {x y : Int32} {off : Int} {tgt : Nat} {A B : Rs β} {ρ : β × LH × Nat × Nat} {hd : Decidable (x ≤ y)} (hdg : decode cc pc = .ok (.if_icmp .le off, 3)) (ht : (pc : Int) + off = (tgt : Int)) (h : (if x ≤ y then A else B) = some ρ) (kt : A = some ρ → AW K L mc ms tgt lv st) (kf : B = some ρ → AW K L mc ms (pc + 3) lv st) : AW K L mc ms pc lv (aI y :: aI x :: st) := by
  intro ad H locs cells slots ls hW hl hs hc hm hv
  exact lv_icmp_le hK.x hK.b hdg ht (fun q => kt (by rw [if_pos q] at h; exact h) ad H locs cells slots ls hW hl (ok1 (ok1 hs)) hc hm hv) (fun q => kf (by rw [if_neg q] at h; exact h) ad H locs cells slots ls hW hl (ok1 (ok1 hs)) hc hm hv)
/-- the runs of the functions: reads, writes, fields, calls -/
def fw_rd {β : Type} (c : Nat) (L : LH) (j : Nat) (x : Int32) (k : Int32 → Rs β) : Rs β := if lh_k L j = c ∧ ¬ (x < 0 ∨ lh_n L j ≤ x.toNatClampNeg) then k (lh_I L j x.toNatClampNeg) else none
def fw_wr {β : Type} (c : Nat) (L : LH) (j : Nat) (x v : Int32) (k : LH → Rs β) : Rs β := if lh_k L j = c ∧ ¬ (x < 0 ∨ lh_n L j ≤ x.toNatClampNeg) then k (lh_sI L j x.toNatClampNeg v) else none
def fw_rq {β : Type} (c : Nat) (L : LH) (j : Nat) (x : Int32) (k : Option Nat → Rs β) : Rs β := if lh_k L j = c ∧ ¬ (x < 0 ∨ lh_n L j ≤ x.toNatClampNeg) then k (lh_R L j x.toNatClampNeg) else none
def fw_wq {β : Type} (c : Nat) (L : LH) (j : Nat) (x : Int32) (v : Option Nat) (k : LH → Rs β) : Rs β := if lh_k L j = c ∧ ¬ (x < 0 ∨ lh_n L j ≤ x.toNatClampNeg) then k (lh_sR L j x.toNatClampNeg v) else none
def fw_gI {β : Type} (c : Nat) (L : LH) (j s : Nat) (k : Int32 → Rs β) : Rs β := if lh_k L j = c then k (lh_I L j s) else none
def fw_gR {β : Type} (c : Nat) (L : LH) (j s : Nat) (k : Option Nat → Rs β) : Rs β := if lh_k L j = c then k (lh_R L j s) else none
def fw_pI {β : Type} (c : Nat) (L : LH) (j s : Nat) (v : Int32) (k : LH → Rs β) : Rs β := if lh_k L j = c then k (lh_sI L j s v) else none
def fw_pR {β : Type} (c : Nat) (L : LH) (j s : Nat) (v : Option Nat) (k : LH → Rs β) : Rs β := if lh_k L j = c then k (lh_sR L j s v) else none
/-- a reference that must not be null -/
def fw_nn {β : Type} (r : Option Nat) (k : Nat → Rs β) : Rs β := match r with
  | none => none
  | some j => k j
/-- a number that must not be 0 -/
def fw_nz {β : Type} (y : Int32) (k : Rs β) : Rs β := if y = 0 then none else k
def fw_nzl {β : Type} (y : Int64) (k : Rs β) : Rs β := if y = 0 then none else k
/-- a truth value -/
def fw_bo {β : Type} (y : Int32) (k : Rs β) : Rs β := if y = 0 ∨ y = 1 then k else none
/-- an object of this kind is meant -/
def fw_is {β : Type} (c : Nat) (L : LH) (j : Nat) (k : Rs β) : Rs β := if lh_k L j = c then k else none
def fw_al {β : Type} (L : LH) (j : Nat) (k : Int32 → Rs β) : Rs β := if 100 ≤ lh_k L j ∧ lh_k L j ≤ 110 ∧ lh_n L j < 2147483648 then k (nI (lh_n L j)) else none
/-- a call: what it costs is counted -/
def fw_cl {α β : Type} (x : Rs α) (k : α → LH → Rs β) : Rs β := match x with
  | none => none
  | some (r, L, c, s) => match k r L with
    | none => none
    | some (b, L2, c2, s2) => some (b, L2, c + c2, s + s2)
/-- a new object of class c (kind c + 1) of n fields -/
def fw_nw {β : Type} (c n : Nat) (L : LH) (k : Nat → LH → Rs β) : Rs β := if lh_z L + 1 < fw_RO then (match k (lh_z L) (lh_new L c 0) with
  | none => none
  | some (b, L2, c2, s2) => some (b, L2, 1 + c2, n + s2)) else none
/-- a new array of kind c -/
def fw_na {β : Type} (c : Nat) (x : Int32) (L : LH) (k : Nat → LH → Rs β) : Rs β := if lh_z L + 1 < fw_RO ∧ ¬ x < 0 ∧ x.toNatClampNeg ≤ 1000000 then (match k (lh_z L) (lh_new L c x.toNatClampNeg) with
  | none => none
  | some (b, L2, c2, s2) => some (b, L2, 1 + c2, x.toNatClampNeg + s2)) else none
theorem fw_nn_h {β : Type} {r : Option Nat} {k : Nat → Rs β} {ρ : β × LH × Nat × Nat} (h : fw_nn r k = some ρ) : ∃ j, r = some j ∧ k j = some ρ := by
  cases r with
  | none => cases h
  | some j => exact ⟨j, rfl, h⟩
theorem fw_nz_h {β : Type} {y : Int32} {k : Rs β} {ρ : β × LH × Nat × Nat} (h : fw_nz y k = some ρ) : ¬ y = 0 ∧ k = some ρ := by
  unfold fw_nz at h
  by_cases q : y = 0
  · rw [if_pos q] at h; cases h
  · rw [if_neg q] at h; exact ⟨q, h⟩
theorem fw_nzl_h {β : Type} {y : Int64} {k : Rs β} {ρ : β × LH × Nat × Nat} (h : fw_nzl y k = some ρ) : ¬ y = 0 ∧ k = some ρ := by
  unfold fw_nzl at h
  by_cases q : y = 0
  · rw [if_pos q] at h; cases h
  · rw [if_neg q] at h; exact ⟨q, h⟩
theorem fw_bo_h {β : Type} {y : Int32} {k : Rs β} {ρ : β × LH × Nat × Nat} (h : fw_bo y k = some ρ) : (y = 0 ∨ y = 1) ∧ k = some ρ := by
  unfold fw_bo at h
  by_cases q : y = 0 ∨ y = 1
  · rw [if_pos q] at h; exact ⟨q, h⟩
  · rw [if_neg q] at h; cases h
theorem fw_is_h {β : Type} {c : Nat} {L : LH} {j : Nat} {k : Rs β} {ρ : β × LH × Nat × Nat} (h : fw_is c L j k = some ρ) : lh_k L j = c ∧ k = some ρ := by
  unfold fw_is at h
  by_cases q : lh_k L j = c
  · rw [if_pos q] at h; exact ⟨q, h⟩
  · rw [if_neg q] at h; cases h
theorem fw_if_h {β : Type} {c : Prop} {hd : Decidable c} {A : Rs β} {ρ : β × LH × Nat × Nat} (h : (if c then A else none) = some ρ) : c ∧ A = some ρ := by
  by_cases q : c
  · rw [if_pos q] at h; exact ⟨q, h⟩
  · rw [if_neg q] at h; cases h
theorem fw_cl_h {α β : Type} {x : Rs α} {k : α → LH → Rs β} {b : β} {L9 : LH} {mc ms : Nat} (h : fw_cl x k = some (b, L9, mc, ms)) : ∃ r L1 c1 s1 c2 s2, x = some (r, L1, c1, s1) ∧ k r L1 = some (b, L9, c2, s2) ∧ mc = c1 + c2 ∧ ms = s1 + s2 := by
  cases x with
  | none => cases h
  | some q =>
    obtain ⟨r, L1, c1, s1⟩ := q
    unfold fw_cl at h
    dsimp only at h
    cases hk : k r L1 with
    | none => rw [hk] at h; cases h
    | some w =>
      obtain ⟨b2, L2, c2, s2⟩ := w
      rw [hk] at h
      cases h
      exact ⟨r, L1, c1, s1, c2, s2, rfl, hk, rfl, rfl⟩
theorem fw_aux_h {β : Type} {x : Rs β} {c s : Nat} {b : β} {L9 : LH} {mc ms : Nat} (h : (match x with
  | none => none
  | some (b, L2, c2, s2) => some (b, L2, c + c2, s + s2) : Rs β) = some (b, L9, mc, ms)) : ∃ c2 s2, x = some (b, L9, c2, s2) ∧ mc = c + c2 ∧ ms = s + s2 := by
  cases x with
  | none => cases h
  | some w =>
    obtain ⟨b2, L2, c2, s2⟩ := w
    cases h
    exact ⟨c2, s2, rfl, rfl, rfl⟩
theorem fw_oz {β : Type} {k : Rs β} {A : Prop} {ρ : β × LH × Nat × Nat} (h : k = some ρ) (f : k = some ρ → A) : A := f h
theorem aw_ifnull {β : Type} (hK : Ok K cc nL own F Lo) {r : Option Nat} {off : Int} {tgt : Nat} {A B : Rs β} {ρ : β × LH × Nat × Nat} {hd : Decidable (r = none)} (hdg : decode cc pc = .ok (.ifnull off, 3)) (ht : (pc : Int) + off = (tgt : Int)) (h : (if r = none then A else B) = some ρ) (kt : A = some ρ → AW K L mc ms tgt lv st) (kf : B = some ρ → AW K L mc ms (pc + 3) lv st) : AW K L mc ms pc lv (aR r :: st) := by
  intro ad H locs cells slots ls hW hl hs hc hm hv
  cases r with
  | none => exact lv_ifnullN hK.x hK.b hdg ht (kt (by rw [if_pos rfl] at h; exact h) ad H locs cells slots ls hW hl (ok1 hs) hc hm hv)
  | some j => exact lv_ifnull hK.x hK.b hdg (kf (by rw [if_neg (fun q => by cases q)] at h; exact h) ad H locs cells slots ls hW hl (ok1 hs) hc hm hv)
theorem aw_ifnonnull {β : Type} (hK : Ok K cc nL own F Lo) {r : Option Nat} {off : Int} {tgt : Nat} {A B : Rs β} {ρ : β × LH × Nat × Nat} {hd : Decidable (r = none)} (hdg : decode cc pc = .ok (.ifnonnull off, 3)) (ht : (pc : Int) + off = (tgt : Int)) (h : (if r = none then A else B) = some ρ) (kt : B = some ρ → AW K L mc ms tgt lv st) (kf : A = some ρ → AW K L mc ms (pc + 3) lv st) : AW K L mc ms pc lv (aR r :: st) := by
  intro ad H locs cells slots ls hW hl hs hc hm hv
  cases r with
  | none => exact lv_ifnonnullN hK.x hK.b hdg (kf (by rw [if_pos rfl] at h; exact h) ad H locs cells slots ls hW hl (ok1 hs) hc hm hv)
  | some j => exact lv_ifnonnull hK.x hK.b hdg ht (kt (by rw [if_neg (fun q => by cases q)] at h; exact h) ad H locs cells slots ls hW hl (ok1 hs) hc hm hv)
theorem fw_tysAt {G : Gx} {t : Nat} (ht : t < 11) : (fw_tys G)[t]? = some (G.2.1 t, fw_arr t) := by
  unfold fw_tys
  rw [List.getElem?_map, List.getElem?_range ht]
  rfl
theorem fw_wst.put {K : Kx} {L L' : LH} {ad : Nat → Nat} {H H1 : Heap} {locs locs1 : List Loc} (hW : fw_wst K L ad H locs) {ws : va_W} (e : ws = fw_wl (kx_G K) L' ad) (hP : va_P (kx_G K).1 fw_cls ws H1) (hD : va_D (kx_A K) ws) (hS : va_S (kx_A K) (kx_s K).heap H1 locs1) (hz : lh_z L' = lh_z L) (hw : fw_wf L') : fw_wst K L' ad H1 locs1 := by
  subst e
  exact ⟨hP, hD, hS, hW.2.2.2.1, by rw [hz]; exact hW.2.2.2.2.1, hw⟩
theorem aw_iald {β : Type} (hK : Ok K cc nL own F Lo) {j : Nat} {x : Int32} {k : Int32 → Rs β} {ρ : β × LH × Nat × Nat} (hdg : decode cc pc = .ok (.iaload, 1)) (h : fw_rd 100 L j x k = some ρ) (kk : ∀ v, k v = some ρ → AW K L mc ms (pc + 1) lv (aI v :: st)) : AW K L mc ms pc lv (aI x :: aR (some j) :: st) := by
  intro ad H locs cells slots ls hW hl hs hc hm hv
  obtain ⟨⟨hk, hin⟩, h⟩ := fw_if_h h
  exact va_iald hK.x hK.b hK.hK hW.1 j 0 (fw_getA hW.2.2.2.2.2 (t := 0) hk (by decide)) (fw_tysAt (by decide)) hin hdg (kk _ h ad H locs cells slots ls hW hl (okI (ok1 (ok1 hs))) hc hm hv)
theorem aw_bald {β : Type} (hK : Ok K cc nL own F Lo) {j : Nat} {x : Int32} {k : Int32 → Rs β} {ρ : β × LH × Nat × Nat} (hdg : decode cc pc = .ok (.baload, 1)) (h : fw_rd 101 L j x k = some ρ) (kk : ∀ v, k v = some ρ → AW K L mc ms (pc + 1) lv (aI v :: st)) : AW K L mc ms pc lv (aI x :: aR (some j) :: st) := by
  intro ad H locs cells slots ls hW hl hs hc hm hv
  obtain ⟨⟨hk, hin⟩, h⟩ := fw_if_h h
  exact va_bald hK.x hK.b hK.hK hW.1 j 1 (fw_getA hW.2.2.2.2.2 (t := 1) hk (by decide)) (fw_tysAt (by decide)) hin hdg (kk _ h ad H locs cells slots ls hW hl (okI (ok1 (ok1 hs))) hc hm hv)
theorem aw_sald {β : Type} (hK : Ok K cc nL own F Lo) {j : Nat} {x : Int32} {k : Int32 → Rs β} {ρ : β × LH × Nat × Nat} (hdg : decode cc pc = .ok (.saload, 1)) (h : fw_rd 102 L j x k = some ρ) (kk : ∀ v, k v = some ρ → AW K L mc ms (pc + 1) lv (aI v :: st)) : AW K L mc ms pc lv (aI x :: aR (some j) :: st) := by
  intro ad H locs cells slots ls hW hl hs hc hm hv
  obtain ⟨⟨hk, hin⟩, h⟩ := fw_if_h h
  exact va_sald hK.x hK.b hK.hK hW.1 j 2 (fw_getA hW.2.2.2.2.2 (t := 2) hk (by decide)) (fw_tysAt (by decide)) hin hdg (kk _ h ad H locs cells slots ls hW hl (okI (ok1 (ok1 hs))) hc hm hv)
theorem aw_zald {β : Type} (hK : Ok K cc nL own F Lo) {j : Nat} {x : Int32} {k : Int32 → Rs β} {ρ : β × LH × Nat × Nat} (hdg : decode cc pc = .ok (.baload, 1)) (h : fw_rd 103 L j x k = some ρ) (kk : ∀ v, k v = some ρ → AW K L mc ms (pc + 1) lv (aI v :: st)) : AW K L mc ms pc lv (aI x :: aR (some j) :: st) := by
  intro ad H locs cells slots ls hW hl hs hc hm hv
  obtain ⟨⟨hk, hin⟩, h⟩ := fw_if_h h
  exact va_zald hK.x hK.b hK.hK hW.1 j 3 (fw_getA hW.2.2.2.2.2 (t := 3) hk (by decide)) (fw_tysAt (by decide)) hin hdg (kk _ h ad H locs cells slots ls hW hl (okI (ok1 (ok1 hs))) hc hm hv)
theorem aw_iast {β : Type} (hK : Ok K cc nL own F Lo) {j : Nat} {x x1 : Int32} {k : LH → Rs β} {ρ : β × LH × Nat × Nat} (hdg : decode cc pc = .ok (.iastore, 1)) (h : fw_wr 100 L j x x1 k = some ρ) (kk : ∀ L1, k L1 = some ρ → AW K L1 mc ms (pc + 1) lv st) : AW K L mc ms pc lv (aI x1 :: aI x :: aR (some j) :: st) := by
  intro ad H locs cells slots ls hW hl hs hc hm hv
  obtain ⟨⟨hk, hin⟩, h⟩ := fw_if_h h
  exact va_iast hK.x hK.b hK.hK hW.1 hW.2.1 hW.2.2.1 j 0 (fw_getA hW.2.2.2.2.2 (t := 0) hk (by decide)) (fw_tysAt (by decide)) hin hdg (fun H1 locs1 hP hD hS => kk _ h ad H1 locs1 cells slots ls (hW.put (fw_setA hk (by decide)) hP hD hS rfl (hW.2.2.2.2.2.sI _ _ _)) hl (ok1 (ok1 (ok1 hs))) hc hm hv)
theorem aw_bast {β : Type} (hK : Ok K cc nL own F Lo) {j : Nat} {x x1 : Int32} {k : LH → Rs β} {ρ : β × LH × Nat × Nat} (hdg : decode cc pc = .ok (.bastore, 1)) (h : fw_wr 101 L j x (vp_nar .byte x1) k = some ρ) (kk : ∀ L1, k L1 = some ρ → AW K L1 mc ms (pc + 1) lv st) : AW K L mc ms pc lv (aI x1 :: aI x :: aR (some j) :: st) := by
  intro ad H locs cells slots ls hW hl hs hc hm hv
  obtain ⟨⟨hk, hin⟩, h⟩ := fw_if_h h
  exact va_bast hK.x hK.b hK.hK hW.1 hW.2.1 hW.2.2.1 j 1 (fw_getA hW.2.2.2.2.2 (t := 1) hk (by decide)) (fw_tysAt (by decide)) hin hdg (fun H1 locs1 hP hD hS => kk _ h ad H1 locs1 cells slots ls (hW.put (fw_setA hk (by decide)) hP hD hS rfl (hW.2.2.2.2.2.sI _ _ _)) hl (ok1 (ok1 (ok1 hs))) hc hm hv)
theorem aw_sast {β : Type} (hK : Ok K cc nL own F Lo) {j : Nat} {x x1 : Int32} {k : LH → Rs β} {ρ : β × LH × Nat × Nat} (hdg : decode cc pc = .ok (.sastore, 1)) (h : fw_wr 102 L j x (vp_nar .short x1) k = some ρ) (kk : ∀ L1, k L1 = some ρ → AW K L1 mc ms (pc + 1) lv st) : AW K L mc ms pc lv (aI x1 :: aI x :: aR (some j) :: st) := by
  intro ad H locs cells slots ls hW hl hs hc hm hv
  obtain ⟨⟨hk, hin⟩, h⟩ := fw_if_h h
  exact va_sast hK.x hK.b hK.hK hW.1 hW.2.1 hW.2.2.1 j 2 (fw_getA hW.2.2.2.2.2 (t := 2) hk (by decide)) (fw_tysAt (by decide)) hin hdg (fun H1 locs1 hP hD hS => kk _ h ad H1 locs1 cells slots ls (hW.put (fw_setA hk (by decide)) hP hD hS rfl (hW.2.2.2.2.2.sI _ _ _)) hl (ok1 (ok1 (ok1 hs))) hc hm hv)
theorem aw_zast {β : Type} (hK : Ok K cc nL own F Lo) {j : Nat} {x x1 : Int32} {k : LH → Rs β} {ρ : β × LH × Nat × Nat} (hdg : decode cc pc = .ok (.bastore, 1)) (h : fw_wr 103 L j x (vp_nar .boolean x1) k = some ρ) (kk : ∀ L1, k L1 = some ρ → AW K L1 mc ms (pc + 1) lv st) : AW K L mc ms pc lv (aI x1 :: aI x :: aR (some j) :: st) := by
  intro ad H locs cells slots ls hW hl hs hc hm hv
  obtain ⟨⟨hk, hin⟩, h⟩ := fw_if_h h
  exact va_zast hK.x hK.b hK.hK hW.1 hW.2.1 hW.2.2.1 j 3 (fw_getA hW.2.2.2.2.2 (t := 3) hk (by decide)) (fw_tysAt (by decide)) hin hdg (fun H1 locs1 hP hD hS => kk _ h ad H1 locs1 cells slots ls (hW.put (fw_setA hk (by decide)) hP hD hS rfl (hW.2.2.2.2.2.sI _ _ _)) hl (ok1 (ok1 (ok1 hs))) hc hm hv)
theorem aw_aald {β : Type} (hK : Ok K cc nL own F Lo) (t : Nat) (ht : 5 ≤ t ∧ t < 11) (hrt : refKind (fw_arr t) = true) {j : Nat} {x : Int32} {k : Option Nat → Rs β} {ρ : β × LH × Nat × Nat} (hdg : decode cc pc = .ok (.aaload, 1)) (h : fw_rq (100 + t) L j x k = some ρ) (kk : ∀ v, k v = some ρ → AW K L mc ms (pc + 1) lv (aR v :: st)) : AW K L mc ms pc lv (aI x :: aR (some j) :: st) := by
  intro ad H locs cells slots ls hW hl hs hc hm hv
  obtain ⟨⟨hk, hin⟩, h⟩ := fw_if_h h
  have hlt : x.toNatClampNeg < lh_n L j := Nat.not_le.mp fun q => hin (Or.inr q)
  have ha := fw_getQ (G := kx_G K) (ad := ad) hW.2.2.2.2.2 hk ht.1
  have hok : okv (lh_z L) (aR (lh_R L j x.toNatClampNeg)) := by
    cases e : lh_R L j x.toNatClampNeg with
    | none => trivial
    | some i => exact hW.2.2.2.2.2.2.2 _ _ _ e
  exact W.aald (v := va_rf (fw_rfs L ad j x.toNatClampNeg)) (ty := fw_arr t) hK.x hK.b (hW.1 j _ ha) ((hK.hK.2 t _ (fw_tysAt ht.2)).1 (lh_n L j) (fun i => va_rf (fw_rfs L ad j i))) hrt (fun q => by cases q) (by show ¬ (x < 0 ∨ (arrV _ _ _).slots.size ≤ _); rw [arrV_size]; exact hin) (by show (arrV _ _ _).slots[_]? = _; rw [arrV_read _ _ hlt]) rfl rfl hdg (kk _ h ad H locs cells slots ls hW hl (okA hok (ok1 (ok1 hs))) hc hm hv)
theorem aw_alen {β : Type} (hK : Ok K cc nL own F Lo) {j : Nat} {k : Int32 → Rs β} {ρ : β × LH × Nat × Nat} (hdg : decode cc pc = .ok (.arraylength, 1)) (h : fw_al L j k = some ρ) (kk : k (nI (lh_n L j)) = some ρ → AW K L mc ms (pc + 1) lv (aI (nI (lh_n L j)) :: st)) : AW K L mc ms pc lv (aR (some j) :: st) := by
  intro ad H locs cells slots ls hW hl hs hc hm hv
  obtain ⟨⟨h1, h2, h3⟩, h⟩ := fw_if_h h
  obtain ⟨t, ht⟩ : ∃ t, lh_k L j = 100 + t := ⟨lh_k L j - 100, by omega⟩
  by_cases h5 : t < 5
  · exact va_alen hK.x hK.b hK.hK hW.1 j t (fw_getA hW.2.2.2.2.2 ht h5) (fw_tysAt (by omega)) rfl hdg (kk h ad H locs cells slots ls hW hl (okI (ok1 hs)) hc hm hv)
  · exact va_alen hK.x hK.b hK.hK hW.1 j t (fw_getQ hW.2.2.2.2.2 ht (by omega)) (fw_tysAt (by omega)) rfl hdg (kk h ad H locs cells slots ls hW hl (okI (ok1 hs)) hc hm hv)
/-- what is known of class ci of the list -/
def fw_cF (ci : Nat) (C : String) (T : u_T) (N : Nat) : Prop := fw_cls[ci]? = some (C, T, N) ∧ (∀ w ∈ u_ws C T N, w ∈ lw_all) ∧ fw_N ci = N ∧ (∀ k, k < N → parseFieldDescriptor (T k).2.2.1 = some (fw_ty ci k)) ∧ (∀ a, a < N → ∀ b, b < N → a ≠ b → (T a).2.1 ≠ (T b).2.1) ∧ ci < 50 ∧ ∀ k, k < N → defaultValue (fw_ty ci k) = if fw_ref (fw_ty ci k) = true then .null else .int 0
theorem fw_c0 : fw_cF 0 RX0 TX0 25 := ⟨rfl, in_X0, rfl, tyX0_ok, nmX0, by decide, by decide +kernel⟩
theorem fw_c1 : fw_cF 1 RX2 TX2 6 := ⟨rfl, in_X2, rfl, tyX2_ok, nmX2, by decide, by decide +kernel⟩
theorem fw_c2 : fw_cF 2 RX3 TX3 7 := ⟨rfl, in_X3, rfl, tyX3_ok, nmX3, by decide, by decide +kernel⟩
theorem fw_c3 : fw_cF 3 RX4 TX4 1 := ⟨rfl, in_X4, rfl, tyX4_ok, nmX4, by decide, by decide +kernel⟩
theorem fw_c4 : fw_cF 4 RJ2 TJ2 3 := ⟨rfl, in_J2, rfl, tyJ2_ok, nmJ2, by decide, by decide +kernel⟩
theorem fw_c5 : fw_cF 5 RX7 TX7 3 := ⟨rfl, in_X7, rfl, tyX7_ok, nmX7, by decide, by decide +kernel⟩
theorem fw_c6 : fw_cF 6 RX6 TX6 7 := ⟨rfl, in_X6, rfl, tyX6_ok, nmX6, by decide, by decide +kernel⟩
theorem fw_c7 : fw_cF 7 RX5 TX5 47 := ⟨rfl, in_X5, rfl, tyX5_ok, nmX5, by decide, by decide +kernel⟩
theorem fw_fldI {L : LH} {ad : Nat → Nat} {ci j k : Nat} (hr : fw_ref (fw_ty ci k) = false) : fw_fld L ad ci j k = .int (lh_I L j k) := if_neg (by rw [hr]; exact Bool.false_ne_true)
theorem fw_fldR {L : LH} {ad : Nat → Nat} {ci j k : Nat} (hr : fw_ref (fw_ty ci k) = true) : fw_fld L ad ci j k = va_rf ((lh_R L j k).map ad) := if_pos hr
theorem fw_wf.okR {L : LH} (h : fw_wf L) (j k : Nat) : okv (lh_z L) (aR (lh_R L j k)) := by
  cases e : lh_R L j k with
  | none => trivial
  | some i => exact h.2.2 _ _ _ e
theorem aw_gI {β : Type} (hK : Ok K cc nL own F Lo) {ci N index : Nat} {C ref : String} {T : u_T} (hc : fw_cF ci C T N) (s : Nat) (hs0 : s < N) (hr : fw_ref (fw_ty ci s) = false) (hq : Cond.fieldLink own index ref (T s).2.1 (T s).2.2.1 ∈ lw_all) (hsame : ∀ x, (kx_s K).fieldFound? (T s).1 (T s).2.1 (T s).2.2.1 = some x → (kx_s K).fieldFound? ref (T s).2.1 (T s).2.2.1 = some x) {j : Nat} {k : Int32 → Rs β} {ρ : β × LH × Nat × Nat} (hdg : decode cc pc = .ok (.getfield index, 3)) (h : fw_gI (ci + 1) L j s k = some ρ) (kk : ∀ v, k v = some ρ → AW K L mc ms (pc + 3) lv (aI v :: st)) : AW K L mc ms pc lv (aR (some j) :: st) := by
  intro ad H locs cells slots ls hW hl hs hc0 hm hv
  obtain ⟨hk, h⟩ := fw_if_h h
  exact va_get (v := .int (lh_I L j s)) hK.x hK.b hK.ts hc.2.1 hK.ow hK.hK hW.1 j (fw_getO hW.2.2.2.2.2 hk hc.2.2.2.2.2.1) hc.1 s hs0 (hK.ts _ hq) hsame (by rw [fw_flds_at (by rw [hc.2.2.1]; exact hs0), fw_fldI hr]) hdg (kk _ h ad H locs cells slots ls hW hl (okI (ok1 hs)) hc0 hm hv)
theorem aw_gR {β : Type} (hK : Ok K cc nL own F Lo) {ci N index : Nat} {C ref : String} {T : u_T} (hc : fw_cF ci C T N) (s : Nat) (hs0 : s < N) (hr : fw_ref (fw_ty ci s) = true) (hq : Cond.fieldLink own index ref (T s).2.1 (T s).2.2.1 ∈ lw_all) (hsame : ∀ x, (kx_s K).fieldFound? (T s).1 (T s).2.1 (T s).2.2.1 = some x → (kx_s K).fieldFound? ref (T s).2.1 (T s).2.2.1 = some x) {j : Nat} {k : Option Nat → Rs β} {ρ : β × LH × Nat × Nat} (hdg : decode cc pc = .ok (.getfield index, 3)) (h : fw_gR (ci + 1) L j s k = some ρ) (kk : ∀ v, k v = some ρ → AW K L mc ms (pc + 3) lv (aR v :: st)) : AW K L mc ms pc lv (aR (some j) :: st) := by
  intro ad H locs cells slots ls hW hl hs hc0 hm hv
  obtain ⟨hk, h⟩ := fw_if_h h
  exact va_get (v := va_rf ((lh_R L j s).map ad)) hK.x hK.b hK.ts hc.2.1 hK.ow hK.hK hW.1 j (fw_getO hW.2.2.2.2.2 hk hc.2.2.2.2.2.1) hc.1 s hs0 (hK.ts _ hq) hsame (by rw [fw_flds_at (by rw [hc.2.2.1]; exact hs0), fw_fldR hr]) hdg (kk _ h ad H locs cells slots ls hW hl (okA (hW.2.2.2.2.2.okR _ _) (ok1 hs)) hc0 hm hv)
theorem aw_pI {β : Type} (hK : Ok K cc nL own F Lo) {ci N index : Nat} {C ref : String} {T : u_T} (hc : fw_cF ci C T N) (s : Nat) (hs0 : s < N) (hr : fw_ref (fw_ty ci s) = false) (hq : Cond.fieldLink own index ref (T s).2.1 (T s).2.2.1 ∈ lw_all) (hsame : ∀ x, (kx_s K).fieldFound? (T s).1 (T s).2.1 (T s).2.2.1 = some x → (kx_s K).fieldFound? ref (T s).2.1 (T s).2.2.1 = some x) (hfin : (T s).2.2.2 = false) {j : Nat} {x : Int32} {k : LH → Rs β} {ρ : β × LH × Nat × Nat} (hna : narrow (fw_ty ci s) (.int x) = .int x) (hfi : fits (fw_ty ci s) (.int x) = true) (hdg : decode cc pc = .ok (.putfield index, 3)) (h : fw_pI (ci + 1) L j s x k = some ρ) (kk : ∀ L1, k L1 = some ρ → AW K L1 mc ms (pc + 3) lv st) : AW K L mc ms pc lv (aI x :: aR (some j) :: st) := by
  intro ad H locs cells slots ls hW hl hs hc0 hm hv
  obtain ⟨hk, h⟩ := fw_if_h h
  exact va_put (v := .int x) (ty := fw_ty ci s) hK.x hK.b hK.ts hc.2.1 (fw_ty ci) hc.2.2.2.1 hc.2.2.2.2.1 hK.ow hK.hK hW.1 hW.2.1 hW.2.2.1 j (fw_getO hW.2.2.2.2.2 hk hc.2.2.2.2.2.1) hc.1 s hs0 (hK.ts _ hq) hsame hfin (hc.2.2.2.1 s hs0) hna hfi (by rw [fw_flds_len, hc.2.2.1]; exact hs0) hdg (fun H1 locs1 hP hD hS => kk _ h ad H1 locs1 cells slots ls (hW.put (fw_setI hk hc.2.2.2.2.2.1 hr) hP hD hS rfl (hW.2.2.2.2.2.sI _ _ _)) hl (ok1 (ok1 hs)) hc0 hm hv)
theorem aw_pR {β : Type} (hK : Ok K cc nL own F Lo) {ci N index : Nat} {C ref : String} {T : u_T} (hc : fw_cF ci C T N) (s : Nat) (hs0 : s < N) (hr : fw_ref (fw_ty ci s) = true) (hq : Cond.fieldLink own index ref (T s).2.1 (T s).2.2.1 ∈ lw_all) (hsame : ∀ x, (kx_s K).fieldFound? (T s).1 (T s).2.1 (T s).2.2.1 = some x → (kx_s K).fieldFound? ref (T s).2.1 (T s).2.2.1 = some x) (hfin : (T s).2.2.2 = false) {j : Nat} {x : Option Nat} {k : LH → Rs β} {ρ : β × LH × Nat × Nat} (hna : ∀ r : Option Nat, narrow (fw_ty ci s) (va_rf r) = va_rf r ∧ fits (fw_ty ci s) (va_rf r) = true) (hdg : decode cc pc = .ok (.putfield index, 3)) (h : fw_pR (ci + 1) L j s x k = some ρ) (kk : ∀ L1, k L1 = some ρ → AW K L1 mc ms (pc + 3) lv st) : AW K L mc ms pc lv (aR x :: aR (some j) :: st) := by
  intro ad H locs cells slots ls hW hl hs hc0 hm hv
  obtain ⟨hk, h⟩ := fw_if_h h
  exact va_put (v := va_rf (x.map ad)) (ty := fw_ty ci s) hK.x hK.b hK.ts hc.2.1 (fw_ty ci) hc.2.2.2.1 hc.2.2.2.2.1 hK.ow hK.hK hW.1 hW.2.1 hW.2.2.1 j (fw_getO hW.2.2.2.2.2 hk hc.2.2.2.2.2.1) hc.1 s hs0 (hK.ts _ hq) hsame hfin (hc.2.2.2.1 s hs0) (hna _).1 (hna _).2 (by rw [fw_flds_len, hc.2.2.1]; exact hs0) hdg (fun H1 locs1 hP hD hS => kk _ h ad H1 locs1 cells slots ls (hW.put (fw_setR hk hc.2.2.2.2.2.1 hr) hP hD hS rfl (hW.2.2.2.2.2.sR _ _ (ok0 hs))) hl (ok1 (ok1 hs)) hc0 hm hv)
theorem aw_gIN {β : Type} (hK : Ok K cc nL own F Lo) {ci N index : Nat} {C ref : String} {T : u_T} {host : String} (hc : fw_cF ci C T N) (s : Nat) (hs0 : s < N) (hr : fw_ref (fw_ty ci s) = false) (hnw : va_Nw (Cond.fieldLinkNest own index ref (T s).2.1 (T s).2.2.1 host) (kx_s K)) (hsame : ∀ x, (kx_s K).fieldFound? (T s).1 (T s).2.1 (T s).2.2.1 = some x → (kx_s K).fieldFound? ref (T s).2.1 (T s).2.2.1 = some x) {j : Nat} {k : Int32 → Rs β} {ρ : β × LH × Nat × Nat} (hdg : decode cc pc = .ok (.getfield index, 3)) (h : fw_gI (ci + 1) L j s k = some ρ) (kk : ∀ v, k v = some ρ → AW K L mc ms (pc + 3) lv (aI v :: st)) : AW K L mc ms pc lv (aR (some j) :: st) := by
  intro ad H locs cells slots ls hW hl hs hc0 hm hv
  obtain ⟨hk, h⟩ := fw_if_h h
  exact va_getN (v := .int (lh_I L j s)) hK.x hK.b hK.ts hc.2.1 hK.ow hK.hK hW.1 j (fw_getO hW.2.2.2.2.2 hk hc.2.2.2.2.2.1) hc.1 s hs0 (va_Nw.use rfl hnw) hsame (by rw [fw_flds_at (by rw [hc.2.2.1]; exact hs0), fw_fldI hr]) hdg (kk _ h ad H locs cells slots ls hW hl (okI (ok1 hs)) hc0 hm hv)
theorem aw_gRN {β : Type} (hK : Ok K cc nL own F Lo) {ci N index : Nat} {C ref : String} {T : u_T} {host : String} (hc : fw_cF ci C T N) (s : Nat) (hs0 : s < N) (hr : fw_ref (fw_ty ci s) = true) (hnw : va_Nw (Cond.fieldLinkNest own index ref (T s).2.1 (T s).2.2.1 host) (kx_s K)) (hsame : ∀ x, (kx_s K).fieldFound? (T s).1 (T s).2.1 (T s).2.2.1 = some x → (kx_s K).fieldFound? ref (T s).2.1 (T s).2.2.1 = some x) {j : Nat} {k : Option Nat → Rs β} {ρ : β × LH × Nat × Nat} (hdg : decode cc pc = .ok (.getfield index, 3)) (h : fw_gR (ci + 1) L j s k = some ρ) (kk : ∀ v, k v = some ρ → AW K L mc ms (pc + 3) lv (aR v :: st)) : AW K L mc ms pc lv (aR (some j) :: st) := by
  intro ad H locs cells slots ls hW hl hs hc0 hm hv
  obtain ⟨hk, h⟩ := fw_if_h h
  exact va_getN (v := va_rf ((lh_R L j s).map ad)) hK.x hK.b hK.ts hc.2.1 hK.ow hK.hK hW.1 j (fw_getO hW.2.2.2.2.2 hk hc.2.2.2.2.2.1) hc.1 s hs0 (va_Nw.use rfl hnw) hsame (by rw [fw_flds_at (by rw [hc.2.2.1]; exact hs0), fw_fldR hr]) hdg (kk _ h ad H locs cells slots ls hW hl (okA (hW.2.2.2.2.2.okR _ _) (ok1 hs)) hc0 hm hv)
theorem aw_pIN {β : Type} (hK : Ok K cc nL own F Lo) {ci N index : Nat} {C ref : String} {T : u_T} {host : String} (hc : fw_cF ci C T N) (s : Nat) (hs0 : s < N) (hr : fw_ref (fw_ty ci s) = false) (hnw : va_Nw (Cond.fieldLinkNest own index ref (T s).2.1 (T s).2.2.1 host) (kx_s K)) (hsame : ∀ x, (kx_s K).fieldFound? (T s).1 (T s).2.1 (T s).2.2.1 = some x → (kx_s K).fieldFound? ref (T s).2.1 (T s).2.2.1 = some x) (hfin : (T s).2.2.2 = false) {j : Nat} {x : Int32} {k : LH → Rs β} {ρ : β × LH × Nat × Nat} (hna : narrow (fw_ty ci s) (.int x) = .int x) (hfi : fits (fw_ty ci s) (.int x) = true) (hdg : decode cc pc = .ok (.putfield index, 3)) (h : fw_pI (ci + 1) L j s x k = some ρ) (kk : ∀ L1, k L1 = some ρ → AW K L1 mc ms (pc + 3) lv st) : AW K L mc ms pc lv (aI x :: aR (some j) :: st) := by
  intro ad H locs cells slots ls hW hl hs hc0 hm hv
  obtain ⟨hk, h⟩ := fw_if_h h
  exact va_putN (v := .int x) (ty := fw_ty ci s) hK.x hK.b hK.ts hc.2.1 (fw_ty ci) hc.2.2.2.1 hc.2.2.2.2.1 hK.ow hK.hK hW.1 hW.2.1 hW.2.2.1 j (fw_getO hW.2.2.2.2.2 hk hc.2.2.2.2.2.1) hc.1 s hs0 (va_Nw.use rfl hnw) hsame hfin (hc.2.2.2.1 s hs0) hna hfi (by rw [fw_flds_len, hc.2.2.1]; exact hs0) hdg (fun H1 locs1 hP hD hS => kk _ h ad H1 locs1 cells slots ls (hW.put (fw_setI hk hc.2.2.2.2.2.1 hr) hP hD hS rfl (hW.2.2.2.2.2.sI _ _ _)) hl (ok1 (ok1 hs)) hc0 hm hv)
theorem aw_pRN {β : Type} (hK : Ok K cc nL own F Lo) {ci N index : Nat} {C ref : String} {T : u_T} {host : String} (hc : fw_cF ci C T N) (s : Nat) (hs0 : s < N) (hr : fw_ref (fw_ty ci s) = true) (hnw : va_Nw (Cond.fieldLinkNest own index ref (T s).2.1 (T s).2.2.1 host) (kx_s K)) (hsame : ∀ x, (kx_s K).fieldFound? (T s).1 (T s).2.1 (T s).2.2.1 = some x → (kx_s K).fieldFound? ref (T s).2.1 (T s).2.2.1 = some x) (hfin : (T s).2.2.2 = false) {j : Nat} {x : Option Nat} {k : LH → Rs β} {ρ : β × LH × Nat × Nat} (hna : ∀ r : Option Nat, narrow (fw_ty ci s) (va_rf r) = va_rf r ∧ fits (fw_ty ci s) (va_rf r) = true) (hdg : decode cc pc = .ok (.putfield index, 3)) (h : fw_pR (ci + 1) L j s x k = some ρ) (kk : ∀ L1, k L1 = some ρ → AW K L1 mc ms (pc + 3) lv st) : AW K L mc ms pc lv (aR x :: aR (some j) :: st) := by
  intro ad H locs cells slots ls hW hl hs hc0 hm hv
  obtain ⟨hk, h⟩ := fw_if_h h
  exact va_putN (v := va_rf (x.map ad)) (ty := fw_ty ci s) hK.x hK.b hK.ts hc.2.1 (fw_ty ci) hc.2.2.2.1 hc.2.2.2.2.1 hK.ow hK.hK hW.1 hW.2.1 hW.2.2.1 j (fw_getO hW.2.2.2.2.2 hk hc.2.2.2.2.2.1) hc.1 s hs0 (va_Nw.use rfl hnw) hsame hfin (hc.2.2.2.1 s hs0) (hna _).1 (hna _).2 (by rw [fw_flds_len, hc.2.2.1]; exact hs0) hdg (fun H1 locs1 hP hD hS => kk _ h ad H1 locs1 cells slots ls (hW.put (fw_setR hk hc.2.2.2.2.2.1 hr) hP hD hS rfl (hW.2.2.2.2.2.sR _ _ (ok0 hs))) hl (ok1 (ok1 hs)) hc0 hm hv)
theorem aw_pIF {β : Type} (hK : Ok K cc nL own F Lo) (hini : (kx_me K).name = "<init>") {ci N index : Nat} {C ref : String} {T : u_T} (hc : fw_cF ci C T N) (s : Nat) (hs0 : s < N) (hr : fw_ref (fw_ty ci s) = false) (hq : Cond.fieldLink own index ref (T s).2.1 (T s).2.2.1 ∈ lw_all) (hsame : ∀ x, (kx_s K).fieldFound? (T s).1 (T s).2.1 (T s).2.2.1 = some x → (kx_s K).fieldFound? ref (T s).2.1 (T s).2.2.1 = some x) (hfin : (T s).2.2.2 = true) (hdec : (T s).1 = own) {j : Nat} {x : Int32} {k : LH → Rs β} {ρ : β × LH × Nat × Nat} (hna : narrow (fw_ty ci s) (.int x) = .int x) (hfi : fits (fw_ty ci s) (.int x) = true) (hdg : decode cc pc = .ok (.putfield index, 3)) (h : fw_pI (ci + 1) L j s x k = some ρ) (kk : ∀ L1, k L1 = some ρ → AW K L1 mc ms (pc + 3) lv st) : AW K L mc ms pc lv (aI x :: aR (some j) :: st) := by
  intro ad H locs cells slots ls hW hl hs hc0 hm hv
  obtain ⟨hk, h⟩ := fw_if_h h
  exact va_putF (v := .int x) (ty := fw_ty ci s) hK.x hK.b hK.ts hc.2.1 (fw_ty ci) hc.2.2.2.1 hc.2.2.2.2.1 hK.ow hK.hK hW.1 hW.2.1 hW.2.2.1 j (fw_getO hW.2.2.2.2.2 hk hc.2.2.2.2.2.1) hc.1 s hs0 (hK.ts _ hq) hsame hfin hini hdec (hc.2.2.2.1 s hs0) hna hfi (by rw [fw_flds_len, hc.2.2.1]; exact hs0) hdg (fun H1 locs1 hP hD hS => kk _ h ad H1 locs1 cells slots ls (hW.put (fw_setI hk hc.2.2.2.2.2.1 hr) hP hD hS rfl (hW.2.2.2.2.2.sI _ _ _)) hl (ok1 (ok1 hs)) hc0 hm hv)
theorem aw_pRF {β : Type} (hK : Ok K cc nL own F Lo) (hini : (kx_me K).name = "<init>") {ci N index : Nat} {C ref : String} {T : u_T} (hc : fw_cF ci C T N) (s : Nat) (hs0 : s < N) (hr : fw_ref (fw_ty ci s) = true) (hq : Cond.fieldLink own index ref (T s).2.1 (T s).2.2.1 ∈ lw_all) (hsame : ∀ x, (kx_s K).fieldFound? (T s).1 (T s).2.1 (T s).2.2.1 = some x → (kx_s K).fieldFound? ref (T s).2.1 (T s).2.2.1 = some x) (hfin : (T s).2.2.2 = true) (hdec : (T s).1 = own) {j : Nat} {x : Option Nat} {k : LH → Rs β} {ρ : β × LH × Nat × Nat} (hna : ∀ r : Option Nat, narrow (fw_ty ci s) (va_rf r) = va_rf r ∧ fits (fw_ty ci s) (va_rf r) = true) (hdg : decode cc pc = .ok (.putfield index, 3)) (h : fw_pR (ci + 1) L j s x k = some ρ) (kk : ∀ L1, k L1 = some ρ → AW K L1 mc ms (pc + 3) lv st) : AW K L mc ms pc lv (aR x :: aR (some j) :: st) := by
  intro ad H locs cells slots ls hW hl hs hc0 hm hv
  obtain ⟨hk, h⟩ := fw_if_h h
  exact va_putF (v := va_rf (x.map ad)) (ty := fw_ty ci s) hK.x hK.b hK.ts hc.2.1 (fw_ty ci) hc.2.2.2.1 hc.2.2.2.2.1 hK.ow hK.hK hW.1 hW.2.1 hW.2.2.1 j (fw_getO hW.2.2.2.2.2 hk hc.2.2.2.2.2.1) hc.1 s hs0 (hK.ts _ hq) hsame hfin hini hdec (hc.2.2.2.1 s hs0) (hna _).1 (hna _).2 (by rw [fw_flds_len, hc.2.2.1]; exact hs0) hdg (fun H1 locs1 hP hD hS => kk _ h ad H1 locs1 cells slots ls (hW.put (fw_setR hk hc.2.2.2.2.2.1 hr) hP hD hS rfl (hW.2.2.2.2.2.sR _ _ (ok0 hs))) hl (ok1 (ok1 hs)) hc0 hm hv)
/-- what a call of a method owes and gets: over G (classes, arrays, lasting cells), ad (where the ids lie) -/
def fw_Q (G : Gx) (ad0 : Nat → Nat) (z0 : Nat) (A : Nat → Prop) (r : Option AV) (L' : LH) : Array Value → State → Outcome → State → Prop := fun _ st oc t =>
  (∃ ad : Nat → Nat, oc = .returned (r.map (cv ad)) ∧ va_P G.1 fw_cls (fw_wl G L' ad) t.heap ∧ va_D A (fw_wl G L' ad) ∧ (∀ j, j < z0 ∨ fw_RO ≤ j → ad j = ad0 j) ∧ z0 ≤ lh_z L' ∧ fw_wf L' ∧ ∀ v, r = some v → okv (lh_z L') v) ∧ va_F A st t
def fw_Pre (Z : fw_ZT) (G : Gx) (L : LH) (ad : Nat → Nat) (args : List AV) (U : State) : Prop :=
  va_P G.1 fw_cls (fw_wl G L ad) U.heap ∧ va_D (fun _ => True) (fw_wl G L ad) ∧ va_K G.1 fw_cls (fw_tys G) U ∧ fw_wf L ∧ (∀ v ∈ args, okv (lh_z L) v) ∧ (∀ i, ad (fw_RO + i) = G.2.2 i) ∧ Z G.2.2 (va_A (fw_wl G L ad) U.heap.size) U U.heap
/-- the contract: over the heap L with these arguments the method answers r and leaves L'; mc cells of ms slots are made -/
def Ct (Z : fw_ZT) (y : MethodName) (ws : List Cond) (fr lo : Nat) (args : List AV) (L : LH) (r : Option AV) (L' : LH) (mc ms : Nat) : Prop :=
  ∀ (l : Launch), l.flags = flags0 → ∀ (G : Gx) (ad : Nat → Nat) (sz : Nat), Met l y ws ({ frames := fr, cells := mc, slots := ms, locals := lo } : Room) (va_Pc (args.map (cv ad)) (fun U => U.heap.size = sz ∧ fw_Pre Z G L ad args U)) (fw_Q G ad (lh_z L) (va_A (fw_wl G L ad) sz) r L') mc ms (va_A (fw_wl G L ad) sz)
def Fin (K : Kx) (ret : Option FieldType) (r : Option AV) (L' : LH) : Prop :=
  (kx_me K).sig.returnType = ret ∧ kx_Q K = MQ (kx_b K) (fw_Q (kx_G K) (kx_ad K) (kx_z K) (kx_A K) r L') (kx_a K) (kx_s K) (kx_R K).cells (kx_R K).slots (kx_A K)
theorem aw_iret (hK : Ok K cc nL own F Lo) {x r : Int32} {L9 : LH} (hdg : decode cc pc = .ok (.ireturn, 1)) (h : (some (x, L, 0, 0) : Rs Int32) = some (r, L9, mc, ms)) (hF : Fin K (some .int) (some (aI r)) L9) : AW K L mc ms pc lv [aI x] := by
  cases h
  intro ad H locs cells slots ls hW hl hs hc hm hv
  have hc : cells = (kx_R K).cells := hc
  have hm : slots = (kx_R K).slots := hm
  rw [hF.2, ← hc, ← hm]
  exact W.iret hK.x hK.b hF.1 (fun t ht _ => ⟨⟨ad, rfl, by rw [ht]; exact hW.1, hW.2.1, hW.2.2.2.1, hW.2.2.2.2.1, hW.2.2.2.2.2, fun v hv => by cases hv; trivial⟩, hW.2.2.1.F ht⟩) hW.2.2.1.2.2 hdg hK.lk
theorem aw_zret (hK : Ok K cc nL own F Lo) {x r : Int32} {L9 : LH} (hx : x = 0 ∨ x = 1) (hdg : decode cc pc = .ok (.ireturn, 1)) (h : (some (x, L, 0, 0) : Rs Int32) = some (r, L9, mc, ms)) (hF : Fin K (some .boolean) (some (aI r)) L9) : AW K L mc ms pc lv [aI x] := by
  cases h
  intro ad H locs cells slots ls hW hl hs hc hm hv
  have hc : cells = (kx_R K).cells := hc
  have hm : slots = (kx_R K).slots := hm
  rw [hF.2, ← hc, ← hm]
  exact W.zret hK.x hK.b hF.1 (by rcases hx with e | e <;> rw [e] <;> rfl) (fun t ht _ => ⟨⟨ad, rfl, by rw [ht]; exact hW.1, hW.2.1, hW.2.2.2.1, hW.2.2.2.2.1, hW.2.2.2.2.2, fun v hv => by cases hv; trivial⟩, hW.2.2.1.F ht⟩) hW.2.2.1.2.2 hdg hK.lk
theorem aw_lret (hK : Ok K cc nL own F Lo) {x r : Int64} {L9 : LH} (hdg : decode cc pc = .ok (.lreturn, 1)) (h : (some (x, L, 0, 0) : Rs Int64) = some (r, L9, mc, ms)) (hF : Fin K (some .long) (some (aL r)) L9) : AW K L mc ms pc lv [aL x] := by
  cases h
  intro ad H locs cells slots ls hW hl hs hc hm hv
  have hc : cells = (kx_R K).cells := hc
  have hm : slots = (kx_R K).slots := hm
  rw [hF.2, ← hc, ← hm]
  exact W.lret hK.x hK.b hF.1 (fun t ht _ => ⟨⟨ad, rfl, by rw [ht]; exact hW.1, hW.2.1, hW.2.2.2.1, hW.2.2.2.2.1, hW.2.2.2.2.2, fun v hv => by cases hv; trivial⟩, hW.2.2.1.F ht⟩) hW.2.2.1.2.2 hdg hK.lk
theorem aw_vret (hK : Ok K cc nL own F Lo) {r : Unit} {L9 : LH} (hdg : decode cc pc = .ok (.return_, 1)) (h : (some ((), L, 0, 0) : Rs Unit) = some (r, L9, mc, ms)) (hF : Fin K none none L9) : AW K L mc ms pc lv [] := by
  cases h
  intro ad H locs cells slots ls hW hl hs hc hm hv
  have hc : cells = (kx_R K).cells := hc
  have hm : slots = (kx_R K).slots := hm
  rw [hF.2, ← hc, ← hm]
  exact W.vret hK.x hK.b hF.1 (fun t ht _ => ⟨⟨ad, rfl, by rw [ht]; exact hW.1, hW.2.1, hW.2.2.2.1, hW.2.2.2.2.1, hW.2.2.2.2.2, fun v hv => by cases hv⟩, hW.2.2.1.F ht⟩) hW.2.2.1.2.2 hdg hK.lk
theorem aw_aret (hK : Ok K cc nL own F Lo) {x r : Option Nat} {L9 : LH} {rt : FieldType} (hrt : fw_ref rt = true) (hdg : decode cc pc = .ok (.areturn, 1)) (h : (some (x, L, 0, 0) : Rs (Option Nat)) = some (r, L9, mc, ms)) (hF : Fin K (some rt) (some (aR r)) L9) : AW K L mc ms pc lv [aR x] := by
  cases h
  intro ad H locs cells slots ls hW hl hs hc hm hv
  have hc : cells = (kx_R K).cells := hc
  have hm : slots = (kx_R K).slots := hm
  rw [hF.2, ← hc, ← hm]
  refine W.aret (v := va_rf (x.map ad)) hK.x hK.b hF.1 ?_ ?_ (fun t ht _ => ⟨⟨ad, rfl, by rw [ht]; exact hW.1, hW.2.1, hW.2.2.2.1, hW.2.2.2.2.1, hW.2.2.2.2.2, fun v hv => by cases hv; exact ok0 hs⟩, hW.2.2.1.F ht⟩) hW.2.2.1.2.2 hdg hK.lk
  · cases rt with
    | object n => exact Or.inl ⟨n, rfl⟩
    | array t => exact Or.inr ⟨t, rfl⟩
    | _ => cases hrt
  · cases x with
    | none => exact Or.inl rfl
    | some j => exact Or.inr ⟨_, rfl⟩
theorem fw_lv_agree {ad ad' : Nat → Nat} {z : Nat} (h : ∀ j, j < z ∨ fw_RO ≤ j → ad' j = ad j) {lv : List (Nat × AV)} (hl : ∀ q ∈ lv, okv z q.2) : fw_lv ad' lv = fw_lv ad lv := by
  unfold fw_lv
  apply List.map_congr_left
  intro q hq
  rw [cv_agree h (hl q hq)]
theorem fw_st_agree {ad ad' : Nat → Nat} {z : Nat} (h : ∀ j, j < z ∨ fw_RO ≤ j → ad' j = ad j) {st : List AV} (hl : ∀ v ∈ st, okv z v) : st.map (cv ad') = st.map (cv ad) := by
  apply List.map_congr_left
  intro q hq
  rw [cv_agree h (hl q hq)]
theorem fw_wst.AA {L : LH} {ad : Nat → Nat} {H : Heap} {locs : List Loc} (hK : Ok K cc nL own F Lo) (hW : fw_wst K L ad H locs) : ∀ q, va_A (fw_wl (kx_G K) L ad) H.size q → kx_A K q := by
  intro q h
  rcases h with ⟨k, e, h⟩ | h
  · exact hW.2.1.2 k (q, e) h
  · exact hK.hA q (Nat.le_trans hW.2.2.1.1 h)
/-- a call, run: the caller goes on -/
theorem aw_run (hK : Ok K cc nL own F Lo) {r : Option AV} {L1 : LH} {c1 s1 c2 s2 : Nat} {st0 : List AV}
    (hrun : ∀ (ad : Nat → Nat) (H : Heap) (locs : List Loc) (cells slots : Nat) (ls : Array Slot), fw_wst K L ad H locs → (∀ v ∈ st0, okv (lh_z L) v) → cells + c1 ≤ (kx_R K).cells ∧ slots + s1 ≤ (kx_R K).slots → ls.size = nL →
      va_Run (kx_p K) (kx_l K) (kx_e K) (kx_R K) (kx_s K) (kx_m K) (kx_a K) (kx_b K) (kx_me K) (kx_c K) H locs cells slots c1 s1 (F0 (kx_m K) pc ls (st0.map (cv ad))) (st.map (cv ad)) (fw_Q (kx_G K) ad (lh_z L) (va_A (fw_wl (kx_G K) L ad) H.size) r L1 #[]) (va_A (fw_wl (kx_G K) L ad) H.size))
    (hst : ∀ v ∈ st, v ∈ st0) (kk : AW K L1 c2 s2 (pc + 3) lv (r.toList ++ st)) : AW K L (c1 + c2) (s1 + s2) pc lv st0 := by
  intro ad H locs cells slots ls hW hl hs hc hm hv T hT X
  obtain ⟨v, st₀, t, T', Lc, h0, X', hLc, e1, e2, ⟨⟨ad', hv0, hP, hD, hag, hz, hwf, hok⟩, hz1, hk1⟩, go⟩ := hrun ad H locs cells slots ls hW hs ⟨by omega, by omega⟩ (by rw [hv.1, hK.ml]) T hT X
  have hv1 : v = r.map (cv ad') := by injection hv0
  rw [h0] at hz1 hk1
  have hAA := fw_wst.AA hK hW
  have hS := hW.2.2.1
  have hS' : va_S (kx_A K) (kx_s K).heap T'.heap (locs ++ Lc) := ⟨Nat.le_trans hS.1 (by rw [e1]; exact hz1), fun q h1 h2 => by rw [e1, hk1 q (Nat.lt_of_lt_of_le h1 hS.1) (fun z => h2 (hAA q z))]; exact hS.2.1 q h1 h2, fun q hq => by
    rcases List.mem_append.mp hq with h | h
    · exact hS.2.2 q h
    · exact hAA _ (hLc q h)⟩
  have hW' : fw_wst K L1 ad' T'.heap (locs ++ Lc) := ⟨by rw [e1]; exact hP, ⟨hD.1, fun k q hq => hAA _ (hD.2 k q hq)⟩, hS', fun j hj => (hag j (hj.imp (fun h => Nat.lt_of_lt_of_le h hW.2.2.2.2.1) (fun h => h))).trans (hW.2.2.2.1 j hj), Nat.le_trans hW.2.2.2.2.1 hz, hwf⟩
  have hs1 : ∀ v ∈ st, okv (lh_z L) v := fun v hv => hs v (hst v hv)
  obtain ⟨t2, a1, b1⟩ := kk ad' T'.heap (locs ++ Lc) (cells + c1) (slots + s1) ls hW' (fun q hq => okv_mono hz (hl q hq)) (fun v hv => by
    rcases List.mem_append.mp hv with h | h
    · cases r with
      | none => cases h
      | some a => rw [List.mem_singleton.mp h]; exact hok a rfl
    · exact okv_mono hz (hs1 v h)) (by omega) (by omega) (by rw [fw_lv_agree hag hl]; exact hv) T' rfl X'
  refine ⟨t2, go t2 ?_, b1⟩
  have e : v.toList ++ st.map (cv ad) = (r.toList ++ st).map (cv ad') := by
    rw [hv1, List.map_append, fw_st_agree hag hs1]
    cases r <;> rfl
  rw [e]
  exact a1
theorem fw_blind {Z : fw_ZT} (hZ : fw_Zok Z) {G : Gx} {L : LH} {ad : Nat → Nat} {as : List AV} {av : List Value} {sz : Nat} : FrameBlind (va_Pc av (fun U => U.heap.size = sz ∧ fw_Pre Z G L ad as U)) := by
  intro a U g mk q
  obtain ⟨q0, q1, qP, qD, qK, qw, qa, qr, qZ⟩ := q
  exact ⟨q0, q1, qP, qD, va_K.moved (u := U) (U := U.calling g mk a) (Vm.Alike.refl U.vm) qK, qw, qa, qr, hZ.1 _ _ U (U.calling g mk a) _ rfl qZ⟩
theorem fw_pre_of {L : LH} {ad : Nat → Nat} {H : Heap} {locs : List Loc} (hK : Ok K cc nL own F Lo) (hW : fw_wst K L ad H locs) {as : List AV} (ha : ∀ v ∈ as, okv (lh_z L) v) {U : State} (hU : U.heap = H) (hWm : (kx_s K).WarmedH U.vm) : U.heap.size = H.size ∧ fw_Pre (kx_Z K) (kx_G K) L ad as U := by
  refine ⟨by rw [hU], by rw [hU]; exact hW.1, ⟨hW.2.1.1, fun _ _ _ => trivial⟩, va_K.moved hWm.alike hK.hK, hW.2.2.2.2.2, ha, fun i => (hW.2.2.2.1 _ (Or.inr (Nat.le_add_right _ _))).trans (hK.ro i), ?_⟩
  rw [hU]
  exact hK.zk.2.2.2 _ _ _ _ _ (fw_wst.AA hK hW) (hK.zk.2.2.1 _ _ _ _ _ (fun a h1 h2 => hW.2.2.1.2.1 a h1 h2) (hK.zk.2.1 _ _ _ _ _ hWm hK.zz))
theorem fw_cat {ad : Nat → Nat} {st : List AV} (h : (st.map catA).sum ≤ 8) : ((st.map (cv ad)).map fun v => v.category).sum ≤ 8 := by
  rw [List.map_map]
  have e : ((fun v : Value => v.category) ∘ cv ad) = catA := by funext v; exact cv_cat ad v
  rw [e]
  exact h
/-- a call costs c1, s1 and what follows c2, s2 -/
theorem aw_callS {α β : Type} (hK : Ok K cc nL own F Lo) {f : Rs α} {rv : α → Option AV} {As st0 : List AV} {y : MethodName} {bytes : ByteArray} {maxL index fr lo n : Nat} {ret : Option FieldType} {k : α → LH → Rs β} {b : β} {L9 : LH}
    (hC : ∀ r L1 c1 s1, f = some (r, L1, c1, s1) → Ct (kx_Z K) y (ws_ y bytes maxL ret) fr lo As L (rv r) L1 c1 s1) (hG : GoodIn lw_all (va_wsS own index y (ws_ y bytes maxL ret)))
    (hd : y.cls ≠ "java/lang/invoke/MethodHandle" ∧ y.cls ≠ "java/lang/invoke/VarHandle" ∧ (parseMethodDescriptor y.desc).map (fun d => d.parameters.length) = some n) (hR : fr + 1 ≤ F ∧ 8 + (maxL + 11) + lo ≤ Lo) (hn : As.length = n) (hst : st0 = As.reverse ++ st) (hcat : (st.map catA).sum ≤ 8)
    (hdg : decode cc pc = .ok (.invokestatic index, 3)) (h : fw_cl f k = some (b, L9, mc, ms)) (kk : ∀ r L1 c2 s2, k r L1 = some (b, L9, c2, s2) → AW K L1 c2 s2 (pc + 3) lv ((rv r).toList ++ st)) : AW K L mc ms pc lv st0 := by
  obtain ⟨r, L1, c1, s1, c2, s2, hf, hk, rfl, rfl⟩ := fw_cl_h h
  refine aw_run (st := st) hK (fun ad H locs cells slots ls hW hs hcs hsz => ?_) (fun v hv => by rw [hst]; exact List.mem_append_right _ hv) (kk r L1 c2 s2 hk)
  have has : ∀ v ∈ As, okv (lh_z L) v := fun v hv => hs v (by rw [hst]; exact List.mem_append_left _ (List.mem_reverse.mpr hv))
  exact va_runS (As := As.map (cv ad)) (rest := st.map (cv ad)) ⟨hK.x, hK.b, hK.ml, hK.ow, hK.ts⟩ (hC r L1 c1 s1 hf _ hK.fl (kx_G K) ad H.size) (va_cwS n hK.ts hG rfl rfl rfl hd (by rw [hK.fr, hK.lo]; exact hR)) ⟨fw_blind hK.zk, fun U hU hWm => ⟨rfl, fw_pre_of hK hW has hU hWm⟩⟩ rfl (by rw [List.length_map]; exact hn) hsz (by rw [hst]; show List.map _ _ = _; rw [List.map_append, List.map_reverse]) (lv_room (fw_cat hcat)) hdg hcs
theorem aw_callI {β : Type} (hK : Ok K cc nL own F Lo) {f : Rs Unit} {As st0 : List AV} {j : Nat} {y : MethodName} {bytes : ByteArray} {maxL index fr lo n : Nat} {k : Unit → LH → Rs β} {b : β} {L9 : LH}
    (hC : ∀ r L1 c1 s1, f = some (r, L1, c1, s1) → Ct (kx_Z K) y (ws_ y bytes maxL none) fr lo (aR (some j) :: As) L none L1 c1 s1) (hG : GoodIn lw_all (ws_ y bytes maxL none)) (hq1 : Cond.initialized y.cls ∈ lw_all) (hq2 : Cond.methodLink own index y ∈ lw_all) (hq3 : Cond.instanceMethod y ∈ lw_all) (hy1 : y.name = "<init>")
    (hd : y.cls ≠ "java/lang/invoke/MethodHandle" ∧ y.cls ≠ "java/lang/invoke/VarHandle" ∧ (parseMethodDescriptor y.desc).map (fun d => d.parameters.length) = some n) (hR : fr + 1 ≤ F ∧ 8 + (maxL + 11) + lo ≤ Lo) (hn : As.length = n) (hst : st0 = As.reverse ++ aR (some j) :: st) (hcat : (st.map catA).sum ≤ 8)
    (hdg : decode cc pc = .ok (.invokespecial index, 3)) (h : fw_cl f k = some (b, L9, mc, ms)) (kk : ∀ L1 c2 s2, k () L1 = some (b, L9, c2, s2) → AW K L1 c2 s2 (pc + 3) lv st) : AW K L mc ms pc lv st0 := by
  obtain ⟨r, L1, c1, s1, c2, s2, hf, hk, rfl, rfl⟩ := fw_cl_h h
  refine aw_run (r := none) (st := st) hK (fun ad H locs cells slots ls hW hs hcs hsz => ?_) (fun v hv => by rw [hst]; exact List.mem_append_right _ (List.mem_cons_of_mem _ hv)) (kk L1 c2 s2 hk)
  have has : ∀ v ∈ aR (some j) :: As, okv (lh_z L) v := fun v hv => hs v (by
    rw [hst]
    rcases List.mem_cons.mp hv with e | e
    · rw [e]; exact List.mem_append_right _ List.mem_cons_self
    · exact List.mem_append_left _ (List.mem_reverse.mpr e))
  exact va_runI (b := ad j) (As := As.map (cv ad)) (rest := st.map (cv ad)) ⟨hK.x, hK.b, hK.ml, hK.ow, hK.ts⟩ (hC r L1 c1 s1 hf _ hK.fl (kx_G K) ad H.size) (cwI n hK.ts hG rfl rfl rfl (hK.ts _ hq1) (hK.ts _ hq2) (hK.ts _ hq3) hy1 hd (by rw [hK.fr, hK.lo]; exact hR)) ⟨fw_blind hK.zk, fun U hU hWm => ⟨rfl, fw_pre_of hK hW has hU hWm⟩⟩ rfl (by rw [List.length_map]; exact hn) hsz (by rw [hst]; show List.map _ _ = _; rw [List.map_append, List.map_reverse]; rfl) (lv_room (fw_cat hcat)) hdg hcs
theorem aw_callV {α β : Type} (hK : Ok K cc nL own F Lo) {f : Rs α} {rv : α → Option AV} {As st0 : List AV} {j ci N : Nat} {C : String} {T : u_T} (hc : fw_cF ci C T N) (hj : lh_k L j = ci + 1) {y : MethodName} {bytes : ByteArray} {maxL index fr lo n : Nat} {ret : Option FieldType} {k : α → LH → Rs β} {b : β} {L9 : LH}
    (hC : ∀ r L1 c1 s1, f = some (r, L1, c1, s1) → Ct (kx_Z K) y (ws_ y bytes maxL ret) fr lo (aR (some j) :: As) L (rv r) L1 c1 s1) (hG : GoodIn lw_all (wsV own index C y (ws_ y bytes maxL ret)))
    (hd : y.cls = C ∧ y.cls ≠ "java/lang/invoke/MethodHandle" ∧ y.cls ≠ "java/lang/invoke/VarHandle" ∧ (parseMethodDescriptor y.desc).map (fun d => d.parameters.length) = some n) (hR : fr + 1 ≤ F ∧ 8 + (maxL + 11) + lo ≤ Lo) (hn : As.length = n) (hst : st0 = As.reverse ++ aR (some j) :: st) (hcat : (st.map catA).sum ≤ 8)
    (hdg : decode cc pc = .ok (.invokevirtual index, 3)) (h : fw_cl f k = some (b, L9, mc, ms)) (kk : ∀ r L1 c2 s2, k r L1 = some (b, L9, c2, s2) → AW K L1 c2 s2 (pc + 3) lv ((rv r).toList ++ st)) : AW K L mc ms pc lv st0 := by
  obtain ⟨r, L1, c1, s1, c2, s2, hf, hk, rfl, rfl⟩ := fw_cl_h h
  refine aw_run (st := st) hK (fun ad H locs cells slots ls hW hs hcs hsz => ?_) (fun v hv => by rw [hst]; exact List.mem_append_right _ (List.mem_cons_of_mem _ hv)) (kk r L1 c2 s2 hk)
  have has : ∀ v ∈ aR (some j) :: As, okv (lh_z L) v := fun v hv => hs v (by
    rw [hst]
    rcases List.mem_cons.mp hv with e | e
    · rw [e]; exact List.mem_append_right _ List.mem_cons_self
    · exact List.mem_append_left _ (List.mem_reverse.mpr e))
  exact va_runV (b := ad j) (As := As.map (cv ad)) (rest := st.map (cv ad)) ⟨hK.x, hK.b, hK.ml, hK.ow, hK.ts⟩ (hC r L1 c1 s1 hf _ hK.fl (kx_G K) ad H.size) (cwV n hK.ts hG rfl rfl rfl hd (by rw [hK.fr, hK.lo]; exact hR)) ⟨fw_blind hK.zk, va_recv hK.hK hW.1 hc.1 (fw_getO hW.2.2.2.2.2 hj hc.2.2.2.2.2.1), fun U hU hWm => ⟨rfl, fw_pre_of hK hW has hU hWm⟩⟩ rfl (by rw [List.length_map]; exact hn) hsz (by rw [hst]; show List.map _ _ = _; rw [List.map_append, List.map_reverse]; rfl) (lv_room (fw_cat hcat)) hdg hcs
end RowsA
