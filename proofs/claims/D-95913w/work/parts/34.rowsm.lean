set_option maxRecDepth 100000
/-! The machine's own exceptions: index out of bounds, negative size, failing cast. -/
abbrev nAI : String := "java/lang/ArrayIndexOutOfBoundsException"
abbrev nNA : String := "java/lang/NegativeArraySizeException"
abbrev nCC : String := "java/lang/ClassCastException"
/-- what is thrown costs three cells -/
def fw_th {β : Type} (E : String) (L : LH) (kx : XO → LH → Rs β) : Rs β := match kx (.inr E) L with
  | none => none
  | some (b, L2, c2, s2) => some (b, L2, 3 + c2, 1010 + s2)
def fw_rdX {β : Type} (c : Nat) (L : LH) (j : Nat) (x : Int32) (kx : XO → LH → Rs β) (k : Int32 → Rs β) : Rs β := if lh_k L j = c ∧ lh_n L j < 2147483648 then (if ¬ (x < 0 ∨ lh_n L j ≤ x.toNatClampNeg) then k (lh_I L j x.toNatClampNeg) else fw_th nAI L kx) else none
def fw_wrX {β : Type} (c : Nat) (L : LH) (j : Nat) (x v : Int32) (kx : XO → LH → Rs β) (k : LH → Rs β) : Rs β := if lh_k L j = c ∧ lh_n L j < 2147483648 then (if ¬ (x < 0 ∨ lh_n L j ≤ x.toNatClampNeg) then k (lh_sI L j x.toNatClampNeg v) else fw_th nAI L kx) else none
def fw_naX {β : Type} (c : Nat) (x : Int32) (L : LH) (kx : XO → LH → Rs β) (k : Nat → LH → Rs β) : Rs β := if x < 0 then fw_th nNA L kx else fw_na c x L k
/-- a cast to an array of ints, bytes or shorts, of an array of one of the three -/
def fw_ckX {β : Type} (t : Nat) (L : LH) (r : Option Nat) (kx : XO → LH → Rs β) (k : Rs β) : Rs β := match r with
  | none => k
  | some i => if lh_k L i = 100 + t then k else if lh_k L i = 100 ∨ lh_k L i = 101 ∨ lh_k L i = 102 then fw_th nCC L kx else none
def fw_io {β : Type} (t : Nat) (L : LH) (r : Option Nat) (k : Int32 → Rs β) : Rs β := match r with
  | none => k 0
  | some i => if lh_k L i = 100 + t then k 1 else if lh_k L i = 100 ∨ lh_k L i = 101 ∨ lh_k L i = 102 then k 0 else none
def fw_up (E : String) : List String := if E = nAI then ["java/lang/IndexOutOfBoundsException", "java/lang/RuntimeException", "java/lang/Exception"] else ["java/lang/RuntimeException", "java/lang/Exception"]
def fw_wdX (w : Cond) : Bool := decide (w ∈ lw_all) || (match w with
  | .declares x => decide (x ∈ fw_zd)
  | .castable a b => decide ((a, b) ∈ fw_zc)
  | _ => false)
def fw_mE (E : String) : Prop := (Bundle.fit E = true ∧ (∀ n ∈ fw_up E, Bundle.fit n = true) ∧ (E == "java/lang/StackOverflowError") = false ∧ (E == "java/lang/OutOfMemoryError") = false) ∧ (vx_atM E (fw_up E)).all fw_wdX = true ∧ (vx_atM E (fw_up E)).all vx_ot = true ∧ (fw_up E).length ≤ 3
set_option maxHeartbeats 4000000 in
theorem fw_mAI : fw_mE nAI := ⟨⟨by decide +kernel, by decide +kernel, by decide, by decide⟩, by decide +kernel, by decide +kernel, by decide⟩
set_option maxHeartbeats 4000000 in
theorem fw_mNA : fw_mE nNA := ⟨⟨by decide +kernel, by decide +kernel, by decide, by decide⟩, by decide +kernel, by decide +kernel, by decide⟩
set_option maxHeartbeats 4000000 in
theorem fw_mCC : fw_mE nCC := ⟨⟨by decide +kernel, by decide +kernel, by decide, by decide⟩, by decide +kernel, by decide +kernel, by decide⟩
section RowsM
variable {K : Kx} {cc : ByteArray} {nL F Lo : Nat} {own : String} {L : LH} {mc ms pc : Nat} {lv : List (Nat × AV)} {st st0 : List AV}
theorem fw_th_h {β : Type} {E : String} {kx : XO → LH → Rs β} {b : β} {L9 : LH} (h : fw_th E L kx = some (b, L9, mc, ms)) : ∃ c2 s2, kx (.inr E) L = some (b, L9, c2, s2) ∧ mc = 3 + c2 ∧ ms = 1010 + s2 := fw_aux_h h
theorem fw_nst (l : Launch) (h : l.flags = flags0) : l.stackTraces = false := by
  unfold Launch.stackTraces
  rw [h]
  decide
theorem fw_hat (hK : Ok K cc nL own F Lo) (hZ : fw_isZ K) {E : String} (hE : fw_mE E) : ∀ w ∈ vx_atM E (fw_up E), w.before (kx_a K) (kx_s K) = true := by
  intro w hw
  have h := List.all_eq_true.mp hE.2.1 w hw
  unfold fw_wdX at h
  rcases Bool.or_eq_true _ _ ▸ h with h | h
  · exact hK.ts w (of_decide_eq_true h)
  · cases w with
    | declares x => exact va_Nw.use rfl (fw_nsD hK hZ (of_decide_eq_true h))
    | castable a b => exact va_Nw.use rfl ((fw_zx hK hZ).2.2.2.2.2.2.2.1 _ (of_decide_eq_true h))
    | _ => cases h
/-- the machine makes and throws E -/
theorem ax_note (hK : Ok K cc nL own F Lo) (hZ : fw_isZ K) {E text : String} (hE : fw_mE E) (htext : (text == notModelled) = false) (hnb : (stringBytes (stringToUtf16 text)).size ≤ 1000) (hF : 8 ≤ F ∧ 10248 ≤ Lo) (hcat : (st.map catA).sum ≤ 8) {c2 s2 : Nat} (kk : AX K L c2 s2 pc lv (.inr E))
    {ad : Nat → Nat} {H : Heap} {locs : List Loc} {cells slots : Nat} {ls : Array Slot} (hW : fw_wst K L ad H locs) (hl : ∀ q ∈ lv, okv (lh_z L) q.2) (hc : cells + (3 + c2) = (kx_R K).cells) (hm : slots + (1010 + s2) = (kx_R K).slots) (hv : lv_has ls (kx_c K).maxLocals (fw_lv ad lv)) :
    vx_Note (kx_p K) (kx_l K) (kx_e K) (kx_R K) (kx_s K) (kx_m K) (kx_a K) (kx_b K) (kx_me K) (kx_c K) H locs cells slots (kx_Q K) (F0 (kx_m K) pc ls (st.map (cv ad))) E text := by
  have hcat' : (((st.map (cv ad)).map fun v => v.category).sum) = (st.map catA).sum := by
    rw [List.map_map]
    congr 2
    funext v
    exact cv_cat ad v
  have hz := (fw_zx hK hZ).2.2.2.1
  have h3 := hE.2.2.2
  refine vx_vm (names := fw_up E) (nb := 1000) (A := kx_A K) hK.x (fw_nst _ hK.fl) hE.1.1 hE.1.2.1 hE.1.2.2.1 hE.1.2.2.2 (fw_hat hK hZ hE) (fun w hw => List.all_eq_true.mp hE.2.2.1 w hw) hz.1 hz.2.1 hW.2.2.1 hv.1 htext hnb (Nat.le_refl _) (by rw [hK.fr]; omega) (by rw [hcat', hK.lo]; omega) (by omega) (by omega) (by omega) hK.lk ?_
  intro H1 q9 ce h1 h2 h3 h4 h5 h6
  exact kk ad H1 locs (cells + 3) (slots + (1000 + 10)) ls _ q9 ce ⟨hW.1.kept (fun k q hk => h2 _ (vx_lt hW.1 hk)), hW.2.1, h3, hW.2.2.2⟩ hl (by omega) (by omega) hv h4 h5 h6 (fun j e => by cases e)

theorem aw_ialdX {β : Type} (hK : Ok K cc nL own F Lo) (hZ : fw_isZ K) {j : Nat} {x : Int32} {k : Int32 → Rs β} {kx : XO → LH → Rs β} {b : β} {L9 : LH} (hF : 8 ≤ F ∧ 10248 ≤ Lo) (hcat : (st.map catA).sum ≤ 8) (hdg : decode cc pc = .ok (.iaload, 1)) (h : fw_rdX 100 L j x kx k = some (b, L9, mc, ms)) (kX : ∀ c2 s2, kx (.inr nAI) L = some (b, L9, c2, s2) → AX K L c2 s2 pc lv (.inr nAI)) (kk : ∀ v, k v = some (b, L9, mc, ms) → AW K L mc ms (pc + 1) lv (aI v :: st)) : AW K L mc ms pc lv (aI x :: aR (some j) :: st) := by
  obtain ⟨⟨hk, hn⟩, h⟩ := fw_if_h h
  by_cases hin : ¬ (x < 0 ∨ lh_n L j ≤ x.toNatClampNeg)
  · rw [if_pos hin] at h
    exact aw_iald hK hdg (k := k) (by unfold fw_rd; rw [if_pos ⟨hk, hin⟩]; exact h) kk
  · rw [if_neg hin] at h
    obtain ⟨c2, s2, h', rfl, rfl⟩ := fw_th_h h
    intro ad H locs cells slots ls hW hl hs hc hm hv
    refine vx_ialdZ hK.x hK.b hK.hK hW.1 j 0 (fw_getA hW.2.2.2.2.2 (t := 0) hk (by decide)) (fw_tysAt (by decide)) hin hdg (fun tx e => ?_)
    subst e
    exact ax_note hK hZ fw_mAI (index_text_modelled x (lh_n L j)) (Nat.le_trans (index_text_bytes x hn) (by omega)) hF hcat (kX c2 s2 h') hW hl hc hm hv
theorem aw_baldX {β : Type} (hK : Ok K cc nL own F Lo) (hZ : fw_isZ K) {j : Nat} {x : Int32} {k : Int32 → Rs β} {kx : XO → LH → Rs β} {b : β} {L9 : LH} (hF : 8 ≤ F ∧ 10248 ≤ Lo) (hcat : (st.map catA).sum ≤ 8) (hdg : decode cc pc = .ok (.baload, 1)) (h : fw_rdX 101 L j x kx k = some (b, L9, mc, ms)) (kX : ∀ c2 s2, kx (.inr nAI) L = some (b, L9, c2, s2) → AX K L c2 s2 pc lv (.inr nAI)) (kk : ∀ v, k v = some (b, L9, mc, ms) → AW K L mc ms (pc + 1) lv (aI v :: st)) : AW K L mc ms pc lv (aI x :: aR (some j) :: st) := by
  obtain ⟨⟨hk, hn⟩, h⟩ := fw_if_h h
  by_cases hin : ¬ (x < 0 ∨ lh_n L j ≤ x.toNatClampNeg)
  · rw [if_pos hin] at h
    exact aw_bald hK hdg (k := k) (by unfold fw_rd; rw [if_pos ⟨hk, hin⟩]; exact h) kk
  · rw [if_neg hin] at h
    obtain ⟨c2, s2, h', rfl, rfl⟩ := fw_th_h h
    intro ad H locs cells slots ls hW hl hs hc hm hv
    refine vx_baldZ hK.x hK.b hK.hK hW.1 j 1 (fw_getA hW.2.2.2.2.2 (t := 1) hk (by decide)) (fw_tysAt (by decide)) hin hdg (fun tx e => ?_)
    subst e
    exact ax_note hK hZ fw_mAI (index_text_modelled x (lh_n L j)) (Nat.le_trans (index_text_bytes x hn) (by omega)) hF hcat (kX c2 s2 h') hW hl hc hm hv
theorem aw_saldX {β : Type} (hK : Ok K cc nL own F Lo) (hZ : fw_isZ K) {j : Nat} {x : Int32} {k : Int32 → Rs β} {kx : XO → LH → Rs β} {b : β} {L9 : LH} (hF : 8 ≤ F ∧ 10248 ≤ Lo) (hcat : (st.map catA).sum ≤ 8) (hdg : decode cc pc = .ok (.saload, 1)) (h : fw_rdX 102 L j x kx k = some (b, L9, mc, ms)) (kX : ∀ c2 s2, kx (.inr nAI) L = some (b, L9, c2, s2) → AX K L c2 s2 pc lv (.inr nAI)) (kk : ∀ v, k v = some (b, L9, mc, ms) → AW K L mc ms (pc + 1) lv (aI v :: st)) : AW K L mc ms pc lv (aI x :: aR (some j) :: st) := by
  obtain ⟨⟨hk, hn⟩, h⟩ := fw_if_h h
  by_cases hin : ¬ (x < 0 ∨ lh_n L j ≤ x.toNatClampNeg)
  · rw [if_pos hin] at h
    exact aw_sald hK hdg (k := k) (by unfold fw_rd; rw [if_pos ⟨hk, hin⟩]; exact h) kk
  · rw [if_neg hin] at h
    obtain ⟨c2, s2, h', rfl, rfl⟩ := fw_th_h h
    intro ad H locs cells slots ls hW hl hs hc hm hv
    refine vx_saldZ hK.x hK.b hK.hK hW.1 j 2 (fw_getA hW.2.2.2.2.2 (t := 2) hk (by decide)) (fw_tysAt (by decide)) hin hdg (fun tx e => ?_)
    subst e
    exact ax_note hK hZ fw_mAI (index_text_modelled x (lh_n L j)) (Nat.le_trans (index_text_bytes x hn) (by omega)) hF hcat (kX c2 s2 h') hW hl hc hm hv
theorem aw_iastX {β : Type} (hK : Ok K cc nL own F Lo) (hZ : fw_isZ K) {j : Nat} {x x1 : Int32} {k : LH → Rs β} {kx : XO → LH → Rs β} {b : β} {L9 : LH} (hF : 8 ≤ F ∧ 10248 ≤ Lo) (hcat : (st.map catA).sum ≤ 8) (hdg : decode cc pc = .ok (.iastore, 1)) (h : fw_wrX 100 L j x x1 kx k = some (b, L9, mc, ms)) (kX : ∀ c2 s2, kx (.inr nAI) L = some (b, L9, c2, s2) → AX K L c2 s2 pc lv (.inr nAI)) (kk : ∀ L1, k L1 = some (b, L9, mc, ms) → AW K L1 mc ms (pc + 1) lv st) : AW K L mc ms pc lv (aI x1 :: aI x :: aR (some j) :: st) := by
  obtain ⟨⟨hk, hn⟩, h⟩ := fw_if_h h
  by_cases hin : ¬ (x < 0 ∨ lh_n L j ≤ x.toNatClampNeg)
  · rw [if_pos hin] at h
    exact aw_iast hK hdg (k := k) (by unfold fw_wr; rw [if_pos ⟨hk, hin⟩]; exact h) kk
  · rw [if_neg hin] at h
    obtain ⟨c2, s2, h', rfl, rfl⟩ := fw_th_h h
    intro ad H locs cells slots ls hW hl hs hc hm hv
    refine vx_iastZ hK.x hK.b hK.hK hW.1 j 0 (fw_getA hW.2.2.2.2.2 (t := 0) hk (by decide)) (fw_tysAt (by decide)) hin hdg (fun tx e => ?_)
    subst e
    exact ax_note hK hZ fw_mAI (index_text_modelled x (lh_n L j)) (Nat.le_trans (index_text_bytes x hn) (by omega)) hF hcat (kX c2 s2 h') hW hl hc hm hv
theorem aw_bastX {β : Type} (hK : Ok K cc nL own F Lo) (hZ : fw_isZ K) {j : Nat} {x x1 : Int32} {k : LH → Rs β} {kx : XO → LH → Rs β} {b : β} {L9 : LH} (hF : 8 ≤ F ∧ 10248 ≤ Lo) (hcat : (st.map catA).sum ≤ 8) (hdg : decode cc pc = .ok (.bastore, 1)) (h : fw_wrX 101 L j x (vp_nar .byte x1) kx k = some (b, L9, mc, ms)) (kX : ∀ c2 s2, kx (.inr nAI) L = some (b, L9, c2, s2) → AX K L c2 s2 pc lv (.inr nAI)) (kk : ∀ L1, k L1 = some (b, L9, mc, ms) → AW K L1 mc ms (pc + 1) lv st) : AW K L mc ms pc lv (aI x1 :: aI x :: aR (some j) :: st) := by
  obtain ⟨⟨hk, hn⟩, h⟩ := fw_if_h h
  by_cases hin : ¬ (x < 0 ∨ lh_n L j ≤ x.toNatClampNeg)
  · rw [if_pos hin] at h
    exact aw_bast hK hdg (k := k) (by unfold fw_wr; rw [if_pos ⟨hk, hin⟩]; exact h) kk
  · rw [if_neg hin] at h
    obtain ⟨c2, s2, h', rfl, rfl⟩ := fw_th_h h
    intro ad H locs cells slots ls hW hl hs hc hm hv
    refine vx_bastZ hK.x hK.b hK.hK hW.1 j 1 (fw_getA hW.2.2.2.2.2 (t := 1) hk (by decide)) (fw_tysAt (by decide)) hin hdg (fun tx e => ?_)
    subst e
    exact ax_note hK hZ fw_mAI (index_text_modelled x (lh_n L j)) (Nat.le_trans (index_text_bytes x hn) (by omega)) hF hcat (kX c2 s2 h') hW hl hc hm hv
theorem aw_sastX {β : Type} (hK : Ok K cc nL own F Lo) (hZ : fw_isZ K) {j : Nat} {x x1 : Int32} {k : LH → Rs β} {kx : XO → LH → Rs β} {b : β} {L9 : LH} (hF : 8 ≤ F ∧ 10248 ≤ Lo) (hcat : (st.map catA).sum ≤ 8) (hdg : decode cc pc = .ok (.sastore, 1)) (h : fw_wrX 102 L j x (vp_nar .short x1) kx k = some (b, L9, mc, ms)) (kX : ∀ c2 s2, kx (.inr nAI) L = some (b, L9, c2, s2) → AX K L c2 s2 pc lv (.inr nAI)) (kk : ∀ L1, k L1 = some (b, L9, mc, ms) → AW K L1 mc ms (pc + 1) lv st) : AW K L mc ms pc lv (aI x1 :: aI x :: aR (some j) :: st) := by
  obtain ⟨⟨hk, hn⟩, h⟩ := fw_if_h h
  by_cases hin : ¬ (x < 0 ∨ lh_n L j ≤ x.toNatClampNeg)
  · rw [if_pos hin] at h
    exact aw_sast hK hdg (k := k) (by unfold fw_wr; rw [if_pos ⟨hk, hin⟩]; exact h) kk
  · rw [if_neg hin] at h
    obtain ⟨c2, s2, h', rfl, rfl⟩ := fw_th_h h
    intro ad H locs cells slots ls hW hl hs hc hm hv
    refine vx_sastZ hK.x hK.b hK.hK hW.1 j 2 (fw_getA hW.2.2.2.2.2 (t := 2) hk (by decide)) (fw_tysAt (by decide)) hin hdg (fun tx e => ?_)
    subst e
    exact ax_note hK hZ fw_mAI (index_text_modelled x (lh_n L j)) (Nat.le_trans (index_text_bytes x hn) (by omega)) hF hcat (kX c2 s2 h') hW hl hc hm hv
theorem aw_newaX {β : Type} (hK : Ok K cc nL own F Lo) (hZ : fw_isZ K) (t : Nat) (ht : t < 4) {atype : ArrayType} (hty : newarray.typeOf atype = fw_arr t) (hq : Cond.arrayClass (fw_arr t) ∈ lw_all) {x : Int32} {k : Nat → LH → Rs β} {kx : XO → LH → Rs β} {b : β} {L9 : LH} (hF : 8 ≤ F ∧ 10248 ≤ Lo) (hcat : (st.map catA).sum ≤ 8) (hdg : decode cc pc = .ok (.newarray atype, 2)) (h : fw_naX (100 + t) x L kx k = some (b, L9, mc, ms)) (kX : ∀ c2 s2, kx (.inr nNA) L = some (b, L9, c2, s2) → AX K L c2 s2 pc lv (.inr nNA)) (kk : ∀ j L1 c2 s2, k j L1 = some (b, L9, c2, s2) → AW K L1 c2 s2 (pc + 2) lv (aR (some j) :: st)) : AW K L mc ms pc lv (aI x :: st) := by
  unfold fw_naX at h
  by_cases hx : x < 0
  · rw [if_pos hx] at h
    obtain ⟨c2, s2, h', rfl, rfl⟩ := fw_th_h h
    intro ad H locs cells slots ls hW hl hs hc hm hv
    refine vx_newarrayZ hK.x hK.b hx hdg (fun tx e => ?_)
    subst e
    exact ax_note hK hZ fw_mNA (negative_text_modelled hx) (Nat.le_trans (negative_text_bytes x) (by omega)) hF hcat (kX c2 s2 h') hW hl hc hm hv
  · rw [if_neg hx] at h
    exact aw_newa hK t ht hty hq hdg h kk
theorem fw_cell {G : Gx} {ad : Nat → Nat} {H : Heap} (hP : va_P G.1 fw_cls (fw_wl G L ad) H) (hw : fw_wf L) {i t : Nat} (hk : lh_k L i = 100 + t) (ht : t < 5) : ∃ cell : Cell, H[ad i]? = some cell ∧ cell.vm.isStatics = false ∧ cell.cls = G.2.1 t := by
  have h := hP i _ (fw_getA (G := G) (ad := ad) hw hk ht)
  exact ⟨_, h, rfl, rfl⟩
theorem aw_inst {β : Type} (hK : Ok K cc nL own F Lo) (hZ : fw_isZ K) (t : Nat) (ht : t < 3) {nm : String} {index : Nat} (hnm : "[" ++ (fw_arr t).toString = nm) (hno : ∀ t', t' < 3 → t' ≠ t → ("[" ++ (fw_arr t').toString, nm) ∈ fw_zn) (hq : Cond.classLink own index nm ∈ lw_all) {r : Option Nat} {k : Int32 → Rs β} {ρ : β × LH × Nat × Nat} (hdg : decode cc pc = .ok (.instanceof index, 3)) (h : fw_io t L r k = some ρ) (kk : ∀ v, k v = some ρ → AW K L mc ms (pc + 3) lv (aI v :: st)) : AW K L mc ms pc lv (aR r :: st) := by
  intro ad H locs cells slots ls hW hl hs hc hm hv
  have go := fun v h => kk v h ad H locs cells slots ls hW hl (okI (ok1 hs)) hc hm hv
  cases r with
  | none => exact lv_instN hK.x hK.b hdg (go _ h)
  | some i =>
    have h : (if lh_k L i = 100 + t then k 1 else if lh_k L i = 100 ∨ lh_k L i = 101 ∨ lh_k L i = 102 then k 0 else none) = some ρ := h
    have hn : ∀ t', t' < 3 → (kx_s K).vm.findClass ("[" ++ (fw_arr t').toString) = some ((kx_G K).2.1 t') := fun t' h' => fw_RAn (hK.hK.2 t' _ (fw_tysAt (by omega))).2
    by_cases hk : lh_k L i = 100 + t
    · rw [if_pos hk] at h
      obtain ⟨cell, h1, h2, h3⟩ := fw_cell hW.1 hW.2.2.2.2.2 hk (by omega)
      exact va_instE hK.x hK.b hK.ow (hK.ts _ hq) ⟨cell, h1, h2, by rw [← hnm, h3]; exact hn t ht⟩ hdg (go _ h)
    · rw [if_neg hk] at h
      obtain ⟨hk3, h⟩ := fw_if_h h
      obtain ⟨t', ht', hk'⟩ : ∃ t', t' < 3 ∧ lh_k L i = 100 + t' := ⟨lh_k L i - 100, by omega, by omega⟩
      obtain ⟨cell, h1, h2, h3⟩ := fw_cell hW.1 hW.2.2.2.2.2 hk' (by omega)
      exact va_instNo (C := "[" ++ (fw_arr t').toString) hK.x hK.b hK.ow (hK.ts _ hq) ((fw_zx hK hZ).2.2.2.2.2.2.2.2.2.2.1 _ (hno t' ht' (by omega))) ⟨cell, h1, h2, by rw [h3]; exact hn t' ht'⟩ hdg (go _ h)

end RowsM
section CastNo
variable {p : Program} {l : Launch} {e : Env} {R : Room} {s : State} {m : MethodId} {args : Array Value} {below : List Frame} {meth : Method} {c : Code} {H : Heap} {locs : List Loc} {cells slots : Nat} {Q : State → Prop}
/-- the cast fails: the machine notes the exception and its text -/
theorem fw_castNo {T : State} (X : Stand p l e R s m args below meth c T locs cells slots) (hexec : p.tables.exec = Jvm.exec)
    {own name : String} {index : Nat} (hown : s.vm.findClass own = some m.cls) (hlink : (Cond.classLink own index name).before args s = true)
    {a : Addr} {cell : Cell} {cT : ClassId} {ks kt : Class} (hcell : T.heap[a]? = some cell) (hobj : cell.vm.isStatics = false) (hks : s.vm.classes[cell.cls]? = some ks) (hcT : s.vm.findClass name = some cT) (hkt : s.vm.classes[cT]? = some kt) (hasg : s.vm.assignable cell.cls cT = false)
    {g : JFrame} (hg : g.method = m) {rest : List Value} (hstack : g.stack = .ref a :: rest) (hdg : decode c.code g.pc = .ok (.checkcast index, 3)) :
    ∃ (vm' : Vm) (ks' kt' : Class), Stand p l e R s m args below meth c (T.setVm vm') locs cells slots ∧ (ks'.name = ks.name ∧ ks'.kind = ks.kind ∧ ks'.hidden = ks.hidden ∧ ks'.loader = ks.loader) ∧ (kt'.name = kt.name ∧ kt'.kind = kt.kind ∧ kt'.hidden = kt.hidden ∧ kt'.loader = kt.loader) ∧
      ∀ target, Steps p.tables e below (((T.setVm vm').setTop g).pushFrame (.throwNew "java/lang/ClassCastException" (some (checkcast.message vm' ks' kt')) none)) target → Steps p.tables e below (T.setTop g) target := by
  have hpl : e.platform.magicAccessors = ({} : Platform).magicAccessors := by rw [X.admits.platform]
  obtain ⟨c', hc', hcl⟩ := Cond.classLink_spec hown hlink e.platform hpl
  cases hcT.symm.trans hc'
  obtain ⟨dk, _, _, kt0, hd, _, _, _, _, hkt0, _, hopen⟩ := hcl.here
  have hcl₀ := X.warmed.classLinks hcl
  have hW' : s.WarmedH (T.vm.noted m.cls index (.cls cT)) := X.warmed.noted hd hopen (State.rightAt_cls hcl)
  obtain ⟨ks', hks', e1⟩ := hW'.alike.2.2 _ _ hks
  obtain ⟨kt', hkt', e2⟩ := hW'.alike.2.2 _ _ hkt
  refine ⟨_, ks', kt', X.noted hW', by rw [e1]; exact ⟨rfl, rfl, rfl, rfl⟩, by rw [e2]; exact ⟨rfl, rfl, rfl, rfl⟩, fun target hrest => ?_⟩
  subst hg
  jvm_step X.here [hexec, hdg, checkcast.wp_cold (e := e) (s := T) (f := g) X.here.top hstack (resolveClass_links e.toSetting hcl₀) hcl₀.ready,
    checkcast.wp_ready (e := e) (s := T.setVm (T.vm.noted g.method.cls index (.cls cT))) (f := g) X.here.top hcl₀.ready hstack]
  refine ⟨cell, hcell, VmData.noStatics_of hobj, ks', hks', kt', hkt', ?_⟩
  have h1 : (T.vm.noted g.method.cls index (Resolved.cls cT)).assignable cell.cls cT = false := by rw [hW'.alike.assignable]; exact hasg
  simp only [h1]
  exact hrest
end CastNo
def fw_nm3 : Nat → String
  | 0 => "[I"
  | 1 => "[B"
  | _ => "[S"
def fw_prim (t : Nat) (k : Class) : Prop := k.name = fw_nm3 t ∧ (∃ comp ty, k.kind = .array comp ty) ∧ k.hidden = none ∧ k.loader = none
theorem fw_prim_mod {t : Nat} {k : Class} (h : fw_prim t k) (vm : Vm) : vm.moduleOf k = vm.modules.find? (·.name == "java.base") := by
  obtain ⟨h1, ⟨comp, ty, h2⟩, -, -⟩ := h
  have : k.ofPrimitives = true := by
    unfold Class.ofPrimitives
    rw [h2, h1]
    match t with
    | 0 => show ((withoutBrackets "[I").length == 1) = true; decide
    | 1 => show ((withoutBrackets "[B").length == 1) = true; decide
    | (n + 2) => show ((withoutBrackets "[S").length == 1) = true; decide
  unfold Vm.moduleOf
  rw [this]
  rfl
theorem fw_prim_shown {t : Nat} {k : Class} (h : fw_prim t k) : k.shown = fw_nm3 t := by
  unfold Class.shown
  rw [h.2.2.1, h.1]
  match t with
  | 0 => show dotted "[I" = "[I"; decide
  | 1 => show dotted "[B" = "[B"; decide
  | (n + 2) => show dotted "[S" = "[S"; decide
theorem fw_ccb {t t' : Nat} (ht : t < 3) (ht' : t' < 3) {a b : Class} (ha : fw_prim t a) (hb : fw_prim t' b) (vm : Vm) : (checkcast.message vm a b == notModelled) = false ∧ (stringBytes (stringToUtf16 (checkcast.message vm a b))).size ≤ 1000 := by
  have ma := fw_prim_mod ha vm
  have mb := fw_prim_mod hb vm
  have la : a.loader = none := ha.2.2.2
  have lb : b.loader = none := hb.2.2.2
  unfold checkcast.message Vm.homes Vm.sameModule Vm.home
  rw [ma, mb, fw_prim_shown ha, fw_prim_shown hb, la, lb, show vm.loaderName none = "'bootstrap'" from rfl]
  clear ma mb la lb ha hb
  cases hf : vm.modules.find? (·.name == "java.base") with
  | none =>
    clear hf
    rcases (show t = 0 ∨ t = 1 ∨ t = 2 by omega) with e | e | e <;> rcases (show t' = 0 ∨ t' = 1 ∨ t' = 2 by omega) with e' | e' | e' <;> subst e <;> subst e' <;> decide +kernel
  | some x =>
    have hx := List.find?_some hf
    have hx' : x.name = "java.base" := eq_of_beq hx
    have ho : (x.obj == x.obj) = true := beq_self_eq_true _
    clear hf
    simp only [ho, if_true, hx']
    rcases (show t = 0 ∨ t = 1 ∨ t = 2 by omega) with e | e | e <;> rcases (show t' = 0 ∨ t' = 1 ∨ t' = 2 by omega) with e' | e' | e' <;> subst e <;> subst e' <;> decide +kernel
section RowsM2
variable {K : Kx} {cc : ByteArray} {nL F Lo : Nat} {own : String} {L : LH} {mc ms pc : Nat} {lv : List (Nat × AV)} {st st0 : List AV}
theorem fw_primOf (hK : Ok K cc nL own F Lo) (t : Nat) (ht : t < 3) : ∃ k : Class, (kx_s K).vm.classes[(kx_G K).2.1 t]? = some k ∧ fw_prim t k ∧ (kx_s K).vm.findClass (fw_nm3 t) = some ((kx_G K).2.1 t) := by
  have hq : Cond.arrayClass (fw_arr t) ∈ lw_all ∧ "[" ++ (fw_arr t).toString = fw_nm3 t := by
    rcases (show t = 0 ∨ t = 1 ∨ t = 2 by omega) with e | e | e <;> subst e <;> exact ⟨by decide +kernel, by decide⟩
  have hn := fw_RAn (hK.hK.2 t _ (fw_tysAt (by omega))).2
  rw [hq.2] at hn
  obtain ⟨cB, kB, comp, h1, h2, h3⟩ := Cond.arrayClass_spec (hK.ts _ hq.1)
  have h1 : (kx_s K).vm.findClass ("[" ++ (fw_arr t).toString) = some cB := h1
  rw [hq.2] at h1
  cases hn.symm.trans h1
  have hlt : (kx_G K).2.1 t < (kx_s K).vm.classes.size := (Array.getElem?_eq_some_iff.mp h2).1
  obtain ⟨hlt', hp, -⟩ := Array.findIdx?_eq_some_iff_getElem.mp hn
  have hkB : (kx_s K).vm.classes[(kx_G K).2.1 t] = kB := (Array.getElem?_eq_some_iff.mp h2).2
  rw [hkB] at hp
  simp only [Bool.and_eq_true, beq_iff_eq] at hp
  exact ⟨kB, h2, ⟨hp.1.1.1, ⟨comp, _, h3⟩, Option.isNone_iff_eq_none.mp hp.1.1.2, Option.isNone_iff_eq_none.mp hp.2⟩, hn⟩
/-- a cast of an array of ints, bytes or shorts that may fail -/
theorem aw_ckaX {β : Type} (hK : Ok K cc nL own F Lo) (hZ : fw_isZ K) (t : Nat) (ht : t < 3) {index : Nat} (hno : ∀ t', t' < 3 → t' ≠ t → (fw_nm3 t', fw_nm3 t) ∈ fw_zn) (hq : Cond.classLink own index (fw_nm3 t) ∈ lw_all) {r : Option Nat} {k : Rs β} {kx : XO → LH → Rs β} {b : β} {L9 : LH} (hF : 8 ≤ F ∧ 10248 ≤ Lo) (hcat : ((aR r :: st).map catA).sum ≤ 8) (hdg : decode cc pc = .ok (.checkcast index, 3)) (h : fw_ckX t L r kx k = some (b, L9, mc, ms)) (kX : ∀ c2 s2, kx (.inr nCC) L = some (b, L9, c2, s2) → AX K L c2 s2 pc lv (.inr nCC)) (kk : k = some (b, L9, mc, ms) → AW K L mc ms (pc + 3) lv (aR r :: st)) : AW K L mc ms pc lv (aR r :: st) := by
  have hnm : "[" ++ (fw_arr t).toString = fw_nm3 t := by
    rcases (show t = 0 ∨ t = 1 ∨ t = 2 by omega) with e | e | e <;> subst e <;> decide
  cases r with
  | none => exact aw_cka hK t (by omega) hnm hq hdg (k := k) (show fw_ck (100 + t) L none k = _ from h) kk
  | some i =>
    have h : (if lh_k L i = 100 + t then k else if lh_k L i = 100 ∨ lh_k L i = 101 ∨ lh_k L i = 102 then fw_th nCC L kx else none) = some (b, L9, mc, ms) := h
    by_cases hk : lh_k L i = 100 + t
    · rw [if_pos hk] at h
      exact aw_cka hK t (by omega) hnm hq hdg (k := k) (show (if lh_k L i = 100 + t then k else none) = _ by rw [if_pos hk]; exact h) kk
    · rw [if_neg hk] at h
      obtain ⟨hk3, h⟩ := fw_if_h h
      obtain ⟨c2, s2, h', rfl, rfl⟩ := fw_th_h h
      obtain ⟨t', ht', hk'⟩ : ∃ t', t' < 3 ∧ lh_k L i = 100 + t' := ⟨lh_k L i - 100, by omega, by omega⟩
      intro ad H locs cells slots ls hW hl hs hc hm hv T hT X
      obtain ⟨cell, h1, h2, h3⟩ := fw_cell hW.1 hW.2.2.2.2.2 hk' (by omega)
      obtain ⟨kS, a1, a2, a3⟩ := fw_primOf hK t' ht'
      obtain ⟨kT, b1, b2, b3⟩ := fw_primOf hK t ht
      obtain ⟨c0, t0, f1, f2, f3⟩ := (fw_zx hK hZ).2.2.2.2.2.2.2.2.2.2.1 _ (hno t' ht' (by omega))
      cases a3.symm.trans f1
      cases b3.symm.trans f2
      obtain ⟨vm', ks', kt', X', e1, e2, st9⟩ := fw_castNo X hK.x hK.ow (hK.ts _ hq) (by rw [hT]; exact h1) h2 (by rw [h3]; exact a1) b3 b1 (by rw [h3]; exact f3) (g := F0 (kx_m K) pc ls ((aR (some i) :: st).map (cv ad))) rfl rfl (by rw [hK.b]; exact hdg)
      have ps : fw_prim t' ks' := ⟨e1.1.trans a2.1, by rw [e1.2.1]; exact a2.2.1, e1.2.2.1.trans a2.2.2.1, e1.2.2.2.trans a2.2.2.2⟩
      have pt : fw_prim t kt' := ⟨e2.1.trans b2.1, by rw [e2.2.1]; exact b2.2.1, e2.2.2.1.trans b2.2.2.1, e2.2.2.2.trans b2.2.2.2⟩
      have hbd : (checkcast.message vm' ks' kt' == notModelled) = false ∧ (stringBytes (stringToUtf16 (checkcast.message vm' ks' kt'))).size ≤ 1000 := fw_ccb ht' ht ps pt vm'
      obtain ⟨t9, a9, b9⟩ := ax_note hK hZ fw_mCC hbd.1 hbd.2 hF hcat (kX c2 s2 h') hW hl hc hm hv (T.setVm vm') hT X'
      exact ⟨t9, st9 t9 a9, b9⟩
/-- caught, and put away into a local variable that is read no more -/
theorem ax_catchE (hK : Ok K cc nL own F Lo) (hZ : fw_isZ K) {E : String} {pre suf : List ExceptionTableEntry} {x : ExceptionTableEntry} {name : String} {i : Nat} {lv' : List (Nat × AV)} (htab : (kx_c K).exceptionTable.toList = pre ++ x :: suf) (hpre : ∀ z ∈ pre, covers z pc = false ∨ (z.catchType ≠ 0 ∧ ∃ nm : String, Cond.classLink own z.catchType nm ∈ lw_all ∧ (E, nm) ∈ fw_zn)) (hx : covers x pc = true) (h0 : x.catchType ≠ 0) (hq : Cond.classLink own x.catchType name ∈ lw_all) (hcast : (E, name) ∈ fw_zc) (hdg : decode cc x.handlerPc = .ok (.astore i, 2)) (hn : i < nL) (hlv : lv.filter (fun q => !(q.1 == i) && !(q.1 + 1 == i && catA q.2 == 2)) = lv') (kk : AW K L mc ms (x.handlerPc + 2) lv' []) : AX K L mc ms pc lv (.inr E) := by
  intro ad H locs cells slots ls rest q ce hW hl hc hm hv h1 h2 h3 h4
  refine vx_catch hK.ow pre x suf htab (fun z hz => (hpre z hz).imp (fun h => h) (fun h => ⟨h.1, h.2.choose, hK.ts _ h.2.choose_spec.1, (fw_zx hK hZ).2.2.2.2.2.2.2.2.2.2.1 _ h.2.choose_spec.2⟩)) hx h0 (hK.ts _ hq) (va_Nw.use rfl ((fw_zx hK hZ).2.2.2.2.2.2.2.1 _ hcast)) h1 h2 h3 ?_
  have hf : (fw_lv ad lv).filter (fun q => !(q.1 == i) && !(q.1 + 1 == i && q.2.category == 2)) = fw_lv ad lv' := by
    have := fw_flt (ad := ad) (i := i) (v := aR none) (lv := lv) (lv' := (i, aR none) :: lv') (by rw [hlv])
    exact (List.cons.inj this).2
  refine lv_astore hK.x hK.b hdg hv (by rw [hK.ml]; exact hn) rfl (fun ls' hv' => ?_)
  refine kk ad H locs cells slots ls' hW (fun q hq => ?_) (fun v hv => by cases hv) hc hm ⟨hv'.1, hv'.2.1, fun q hq => hv'.2.2 q (List.mem_cons_of_mem _ (by rw [hf]; exact hq))⟩
  rw [← hlv] at hq
  exact hl q (List.mem_filter.mp hq).1
/-- a static method that may throw -/
theorem rx_S (hK : Ok K cc nL own F Lo) {As : List AV} {y : MethodName} {bytes : ByteArray} {maxL index fr lo n c1 s1 : Nat} {ret : Option FieldType} {o : Option AV ⊕ XO} {L1 : LH}
    (hC : CtX (kx_Z K) y (ws_ y bytes maxL ret) fr lo As L o L1 c1 s1) (hG : GoodIn lw_all (va_wsS own index y (ws_ y bytes maxL ret)))
    (hd : y.cls ≠ "java/lang/invoke/MethodHandle" ∧ y.cls ≠ "java/lang/invoke/VarHandle" ∧ (parseMethodDescriptor y.desc).map (fun d => d.parameters.length) = some n) (hR : fr + 1 ≤ F ∧ 8 + (maxL + 11) + lo ≤ Lo) (hn : As.length = n) (hst : st0 = As.reverse ++ st) (hcat : (st.map catA).sum ≤ 8)
    (hdg : decode cc pc = .ok (.invokestatic index, 3)) : fw_RX K nL L pc st0 st o L1 c1 s1 := by
  intro ad H locs cells slots ls hW hs hcs hsz
  have has : ∀ v ∈ As, okv (lh_z L) v := fun v hv => hs v (by rw [hst]; exact List.mem_append_left _ (List.mem_reverse.mpr hv))
  have k := vx_runS (e := kx_e K) (below := kx_b K) (meth := kx_me K) (H := H) (locs := locs) (As := As.map (cv ad)) (rest := st.map (cv ad)) (g := F0 (kx_m K) pc ls (st0.map (cv ad))) ⟨hK.x, hK.b, hK.ml, hK.ow, hK.ts⟩ (hC _ hK.fl (kx_G K) ad H.size) (va_cwS n hK.ts hG rfl rfl rfl hd (by rw [hK.fr, hK.lo]; exact hR)) ⟨fw_blind hK.zk, fun U hU hWm => ⟨rfl, fw_pre_of hK hW has hU hWm⟩⟩ rfl (by rw [List.length_map]; exact hn) hsz (by rw [hst]; show List.map _ _ = _; rw [List.map_append, List.map_reverse]) (lv_room (fw_cat hcat)) hdg hcs
  cases o <;> exact k
/-- the receiver's own method, which may throw -/
theorem rx_V (hK : Ok K cc nL own F Lo) {As : List AV} {j : Nat} {C : String} {y : MethodName} {bytes : ByteArray} {maxL index fr lo n c1 s1 : Nat} {ret : Option FieldType} {o : Option AV ⊕ XO} {L1 : LH} (hr : fw_rcv K L j C)
    (hC : CtX (kx_Z K) y (ws_ y bytes maxL ret) fr lo (aR (some j) :: As) L o L1 c1 s1) (hG : GoodIn lw_all (wsV own index C y (ws_ y bytes maxL ret)))
    (hd : y.cls = C ∧ y.cls ≠ "java/lang/invoke/MethodHandle" ∧ y.cls ≠ "java/lang/invoke/VarHandle" ∧ (parseMethodDescriptor y.desc).map (fun d => d.parameters.length) = some n) (hR : fr + 1 ≤ F ∧ 8 + (maxL + 11) + lo ≤ Lo) (hn : As.length = n) (hst : st0 = As.reverse ++ aR (some j) :: st) (hcat : (st.map catA).sum ≤ 8)
    (hdg : decode cc pc = .ok (.invokevirtual index, 3)) : fw_RX K nL L pc st0 st o L1 c1 s1 := by
  intro ad H locs cells slots ls hW hs hcs hsz
  have has : ∀ v ∈ aR (some j) :: As, okv (lh_z L) v := fun v hv => hs v ((fw_sub1 hst).1 v hv)
  have k := vx_runV (e := kx_e K) (below := kx_b K) (meth := kx_me K) (H := H) (locs := locs) (b := ad j) (As := As.map (cv ad)) (rest := st.map (cv ad)) (g := F0 (kx_m K) pc ls (st0.map (cv ad))) ⟨hK.x, hK.b, hK.ml, hK.ow, hK.ts⟩ (hC _ hK.fl (kx_G K) ad H.size) (cwV n hK.ts hG rfl rfl rfl hd (by rw [hK.fr, hK.lo]; exact hR)) ⟨fw_blind hK.zk, hr ad H locs hW, fun U hU hWm => ⟨rfl, fw_pre_of hK hW has hU hWm⟩⟩ rfl (by rw [List.length_map]; exact hn) hsz (fw_stk hst) (lv_room (fw_cat hcat)) hdg hcs
  cases o <;> exact k
/-- told apart: the machine's exception E, or another -/
def fw_tE {β : Type} (x : XO) (E : String) (k kn : Rs β) : Rs β := match x with
  | .inl _ => kn
  | .inr E' => if E' = E then k else kn
theorem fw_tE_h {β : Type} {x : XO} {E : String} {k kn : Rs β} {ρ : β × LH × Nat × Nat} (h : fw_tE x E k kn = some ρ) : (x = .inr E ∧ k = some ρ) ∨ kn = some ρ := by
  cases x with
  | inl j => exact Or.inr h
  | inr E' =>
    have h : (if E' = E then k else kn) = some ρ := h
    by_cases e : E' = E
    · rw [if_pos e] at h; exact Or.inl ⟨by rw [e], h⟩
    · rw [if_neg e] at h; exact Or.inr h
end RowsM2
