set_option maxRecDepth 100000
/-! Rows for what stands from the start, calls that choose their method by the receiver, arrays of references. -/
def fw_srt {β : Type} (j : Nat) (x : Int32) (k : Option Nat → Rs β) : Rs β := if j = fw_RO ∧ ¬ (x < 0 ∨ 3 ≤ x.toNatClampNeg) then k (some (fw_RO + (1 + x.toNatClampNeg))) else none
/-- this constant is meant -/
def fw_isR {β : Type} (i j : Nat) (k : Rs β) : Rs β := if j = fw_RO + i then k else none
/-- by the sort of a puller -/
def fw_sd {α : Type} (j : Nat) (a b c : Rs α) : Rs α := if j = fw_RO + 1 then a else if j = fw_RO + 2 then b else if j = fw_RO + 3 then c else none
/-- a text: a team's or a captain's -/
def fw_td {α : Type} (L : LH) (j : Nat) (a b : Rs α) : Rs α := if lh_k L j = 2 then a else if lh_k L j = 3 then b else none
/-- which objects an array of references takes: 5 Object, 6 Team, 7 Captain, 8 Text, 9 Sheet -/
def fw_aok (t c : Nat) : Bool := (t == 5 && (c == 6 || c == 100)) || (t == 6 && c == 2) || (t == 7 && c == 3) || (t == 8 && (c == 2 || c == 3)) || (t == 9 && c == 4)
def fw_aov (t : Nat) (L : LH) : Option Nat → Bool
  | none => true
  | some i => fw_aok t (lh_k L i)
def fw_wqa {β : Type} (t : Nat) (L : LH) (j : Nat) (x : Int32) (v : Option Nat) (k : LH → Rs β) : Rs β := if (lh_k L j = 100 + t ∧ ¬ (x < 0 ∨ lh_n L j ≤ x.toNatClampNeg)) ∧ fw_aov t L v = true then k (lh_sR L j x.toNatClampNeg v) else none
/-- a cast to the class of kind c -/
def fw_ck {β : Type} (c : Nat) (L : LH) (r : Option Nat) (k : Rs β) : Rs β := match r with
  | none => k
  | some j => if lh_k L j = c then k else none
/-- an Object[]'s length; ArrayList's empty array is one of the constants -/
def fw_alx {β : Type} (L : LH) (j : Nat) (k : Int32 → Rs β) : Rs β := if j = fw_RO + 4 then k (nI 0) else if lh_k L j = 105 ∧ lh_n L j < 2147483648 then k (nI (lh_n L j)) else none
/-- is it ArrayList's empty array -/
def fw_isD {β : Type} (L : LH) (r : Option Nat) (A B : Rs β) : Rs β := match r with
  | none => B
  | some j => if j = fw_RO + 4 then A else if lh_k L j = 105 then B else none
def fw_sv {β : Type} (j : Nat) (k : Option Nat → Rs β) : Rs β := if fw_RO + 5 ≤ j ∧ j < fw_RO + 9 then k (some (j + 4)) else none
def fw_sc {β : Type} (j : Nat) (k : Int32 → Rs β) : Rs β := if fw_RO + 5 ≤ j ∧ j < fw_RO + 9 then k (nI 0) else none
def fw_sn {β : Type} (j : Nat) (k : Int32 → Rs β) : Rs β := if fw_RO + 9 ≤ j ∧ j < fw_RO + 13 then k (nI (fw_sl.getD (j - (fw_RO + 9)) 0)) else none
def fw_st {β : Type} (j : Nat) (x : Int32) (k : Int32 → Rs β) : Rs β := if (fw_RO + 9 ≤ j ∧ j < fw_RO + 13) ∧ ¬ (x < 0 ∨ fw_sl.getD (j - (fw_RO + 9)) 0 ≤ x.toNatClampNeg) then k ((fw_sb.getD (j - (fw_RO + 9)) []).getD x.toNatClampNeg 0) else none
section RowsX
variable {K : Kx} {cc : ByteArray} {nL F Lo : Nat} {own : String} {L : LH} {mc ms pc : Nat} {lv : List (Nat × AV)} {st : List AV}
theorem fw_zx (hK : Ok K cc nL own F Lo) (hZ : fw_isZ K) : fw_ZX0 (kx_G K).2.2 (kx_A K) (kx_s K) (kx_s K).heap := by
  obtain ⟨b1, b2, e⟩ := hZ
  have h := hK.zz
  rw [e] at h
  exact h.1
theorem fw_wst.ro {ad : Nat → Nat} {H : Heap} {locs : List Loc} (hK : Ok K cc nL own F Lo) (hW : fw_wst K L ad H locs) (i : Nat) : ad (fw_RO + i) = (kx_G K).2.2 i := (hW.2.2.2.1 _ (Or.inr (Nat.le_add_right _ _))).trans (hK.ro i)
theorem okv_ro {z i : Nat} : okv z (aR (some (fw_RO + i))) := Or.inr (Nat.le_add_right _ _)
theorem aw_getsR (hK : Ok K cc nL own F Lo) (i : Nat) {C n d ref : String} {index : Nat} (hz : va_Z C n d (.ref ((kx_G K).2.2 i)) (kx_A K) (kx_s K) (kx_s K).heap) (hlink : (Cond.fieldLink own index ref n d).before (kx_a K) (kx_s K) = true) (hsame : ∀ x, (kx_s K).fieldFound? C n d = some x → (kx_s K).fieldFound? ref n d = some x) (hdg : decode cc pc = .ok (.getstatic index, 3)) (kk : AW K L mc ms (pc + 3) lv (aR (some (fw_RO + i)) :: st)) : AW K L mc ms pc lv st := by
  intro ad H locs cells slots ls hW hl hs hc hm hv
  refine va_gets hK.x hK.b hz hW.2.2.1 hK.ow hlink hsame hdg ?_
  rw [← hW.ro hK i]
  exact kk ad H locs cells slots ls hW hl (okA okv_ro hs) hc hm hv
theorem aw_getsRN (hK : Ok K cc nL own F Lo) (i : Nat) {C n d ref host : String} {index : Nat} (hz : va_Z C n d (.ref ((kx_G K).2.2 i)) (kx_A K) (kx_s K) (kx_s K).heap) (hlink : (Cond.fieldLinkNest own index ref n d host).before (kx_a K) (kx_s K) = true) (hsame : ∀ x, (kx_s K).fieldFound? C n d = some x → (kx_s K).fieldFound? ref n d = some x) (hdg : decode cc pc = .ok (.getstatic index, 3)) (kk : AW K L mc ms (pc + 3) lv (aR (some (fw_RO + i)) :: st)) : AW K L mc ms pc lv st := by
  intro ad H locs cells slots ls hW hl hs hc hm hv
  refine va_getsN hK.x hK.b hz hW.2.2.1 hK.ow hlink hsame hdg ?_
  rw [← hW.ro hK i]
  exact kk ad H locs cells slots ls hW hl (okA okv_ro hs) hc hm hv
theorem aw_getsI (hK : Ok K cc nL own F Lo) {v : Int32} {C n d ref : String} {index : Nat} (hz : va_Z C n d (.int v) (kx_A K) (kx_s K) (kx_s K).heap) (hlink : (Cond.fieldLink own index ref n d).before (kx_a K) (kx_s K) = true) (hsame : ∀ x, (kx_s K).fieldFound? C n d = some x → (kx_s K).fieldFound? ref n d = some x) (hdg : decode cc pc = .ok (.getstatic index, 3)) (kk : AW K L mc ms (pc + 3) lv (aI v :: st)) : AW K L mc ms pc lv st := by
  intro ad H locs cells slots ls hW hl hs hc hm hv
  exact va_gets hK.x hK.b hz hW.2.2.1 hK.ow hlink hsame hdg (kk ad H locs cells slots ls hW hl (okI hs) hc hm hv)
theorem aw_srt {β : Type} (hK : Ok K cc nL own F Lo) (hZ : fw_isZ K) {j : Nat} {x : Int32} {k : Option Nat → Rs β} {ρ : β × LH × Nat × Nat} (hdg : decode cc pc = .ok (.aaload, 1)) (h : fw_srt j x k = some ρ) (kk : ∀ v, k v = some ρ → AW K L mc ms (pc + 1) lv (aR v :: st)) : AW K L mc ms pc lv (aI x :: aR (some j) :: st) := by
  intro ad H locs cells slots ls hW hl hs hc hm hv
  obtain ⟨⟨hj, hin⟩, h'⟩ := fw_if_h h
  subst hj
  have e := kk _ h' ad H locs cells slots ls hW hl (okA okv_ro (ok1 (ok1 hs))) hc hm hv
  have e0 : (aI x :: aR (some fw_RO) :: st).map (cv ad) = .int x :: .ref ((kx_G K).2.2 0) :: st.map (cv ad) := by
    rw [← hW.ro hK 0]; rfl
  have e1 : (aR (some (fw_RO + (1 + x.toNatClampNeg))) :: st).map (cv ad) = .ref ((kx_G K).2.2 (1 + x.toNatClampNeg)) :: st.map (cv ad) := by
    rw [← hW.ro hK (1 + x.toNatClampNeg)]; rfl
  rw [e0]
  rw [e1] at e
  exact vb_tq hK.x hK.b (fw_zx hK hZ).1.2.1 hW.2.2.1 hin rfl hdg e
theorem aw_aast {β : Type} (hK : Ok K cc nL own F Lo) (hZ : fw_isZ K) (t : Nat) (ht : 5 ≤ t ∧ t < 10) {j : Nat} {x : Int32} {v : Option Nat} {k : LH → Rs β} {ρ : β × LH × Nat × Nat} (hdg : decode cc pc = .ok (.aastore, 1)) (h : fw_wqa t L j x v k = some ρ) (kk : ∀ L1, k L1 = some ρ → AW K L1 mc ms (pc + 1) lv st) : AW K L mc ms pc lv (aR v :: aI x :: aR (some j) :: st) := by
  intro ad H locs cells slots ls hW hl hs hc hm hv
  obtain ⟨⟨⟨hk, hin⟩, hv0⟩, h⟩ := fw_if_h h
  have hw := hW.2.2.2.2.2
  have ha := fw_getQ (G := kx_G K) (ad := ad) hw hk ht.1
  obtain ⟨E, hE⟩ : ∃ E, fw_arr t = .object E := by
    rcases (show t = 5 ∨ t = 6 ∨ t = 7 ∨ t = 8 ∨ t = 9 by omega) with e | e | e | e | e <;> rw [e] <;> exact ⟨_, rfl⟩
  have hty := fw_tysAt (G := kx_G K) (t := t) (by omega)
  rw [hE] at hty
  have hgo : ∀ (H1 : Heap) (locs1 : List Loc), va_P (kx_G K).1 fw_cls ((fw_wl (kx_G K) L ad).set j (ad j, .inl ((kx_G K).2.1 t, lh_n L j, .inr (.inr (.inr (.inr (va_up (fw_rfs L ad j) x.toNatClampNeg (v.map ad)))))))) H1 → va_D (kx_A K) ((fw_wl (kx_G K) L ad).set j (ad j, .inl ((kx_G K).2.1 t, lh_n L j, .inr (.inr (.inr (.inr (va_up (fw_rfs L ad j) x.toNatClampNeg (v.map ad)))))))) → va_S (kx_A K) (kx_s K).heap H1 locs1 → W (kx_p K) (kx_l K) (kx_e K) (kx_R K) (kx_s K) (kx_m K) (kx_a K) (kx_b K) (kx_me K) (kx_c K) H1 locs1 cells slots (kx_Q K) (F0 (kx_m K) (pc + 1) ls (st.map (cv ad))) := fun H1 locs1 hP hD hS => kk _ h ad H1 locs1 cells slots ls (hW.put (fw_setQ hk ht.1) hP hD hS rfl (hw.sR _ _ (ok0 hs))) hl (ok1 (ok1 (ok1 hs))) hc hm hv
  cases v with
  | none => exact va_astqN hK.x hK.b hK.hK hW.1 hW.2.1 hW.2.2.1 j t ha hty hin hdg hgo
  | some i =>
    have hv1 : fw_aok t (lh_k L i) = true := hv0
    obtain ⟨C, hr, hasg⟩ : ∃ C : String, (∃ cellV : Cell, H[ad i]? = some cellV ∧ cellV.vm.isStatics = false ∧ (kx_s K).vm.findClass C = some cellV.cls) ∧ ∀ comp c0 : ClassId, (kx_s K).vm.findClass E = some comp → (kx_s K).vm.findClass C = some c0 → (kx_s K).vm.assignable c0 comp = true := by
      have hcast : ∀ q ∈ fw_zc, ∀ comp c0 : ClassId, (kx_s K).vm.findClass q.2 = some comp → (kx_s K).vm.findClass q.1 = some c0 → (kx_s K).vm.assignable c0 comp = true := by
        intro q hq comp c0 h1 h2
        have h3 := (fw_zx hK hZ).2.2.2.2.2.2.2.1 q hq
        unfold va_Nw at h3
        simp only [Cond.before, Cond.holds, Cond.value, h1, h2] at h3
        simpa using h3
      have hob : ∀ {ci N : Nat} {C : String} {T : u_T}, fw_cF ci C T N → lh_k L i = ci + 1 → ∃ cellV : Cell, H[ad i]? = some cellV ∧ cellV.vm.isStatics = false ∧ (kx_s K).vm.findClass C = some cellV.cls := fun hc hj => va_recv hK.hK hW.1 hc.1 (fw_getO hw hj hc.2.2.2.2.2.1)
      simp only [fw_aok, Bool.or_eq_true, Bool.and_eq_true, beq_iff_eq] at hv1
      rcases hv1 with (((⟨rfl, hk2 | hk2⟩ | ⟨rfl, hk2⟩) | ⟨rfl, hk2⟩) | ⟨rfl, hk2 | hk2⟩) | ⟨rfl, hk2⟩ <;> cases hE
      · exact ⟨_, hob fw_c5 hk2, hcast ("TugOfWar$Puller", "java/lang/Object") (by decide)⟩
      · refine ⟨"[I", ?_, hcast ("[I", "java/lang/Object") (by decide)⟩
        have hi := fw_getA (G := kx_G K) (ad := ad) (t := 0) hw hk2 (by decide)
        exact ⟨_, hW.1 i _ hi, rfl, fw_RAn (hK.hK.2 0 _ (fw_tysAt (by decide))).2⟩
      · exact ⟨_, hob fw_c1 hk2, fun comp c0 h1 h2 => vb_asgS comp c0 h1 h2⟩
      · exact ⟨_, hob fw_c2 hk2, fun comp c0 h1 h2 => vb_asgS comp c0 h1 h2⟩
      · exact ⟨_, hob fw_c1 hk2, hcast ("TugOfWar$Team", "TugOfWar$Text") (by decide)⟩
      · exact ⟨_, hob fw_c2 hk2, hcast ("TugOfWar$Captain", "TugOfWar$Text") (by decide)⟩
      · exact ⟨_, hob fw_c3 hk2, fun comp c0 h1 h2 => vb_asgS comp c0 h1 h2⟩
    exact vb_astq hK.x hK.b hK.hK hW.1 hW.2.1 hW.2.2.1 j t ha hty hr hasg hin hdg hgo
theorem aw_anew {β : Type} (hK : Ok K cc nL own F Lo) (hZ : fw_isZ K) (t : Nat) (ht : 5 ≤ t ∧ t < 10) {C : String} (hC : fw_arr t = .object C) {index : Nat} (hq : Cond.classLink own index C ∈ lw_all) {x : Int32} {k : Nat → LH → Rs β} {b : β} {L9 : LH} (hdg : decode cc pc = .ok (.anewarray index, 3)) (h : fw_na (100 + t) x L k = some (b, L9, mc, ms)) (kk : ∀ j L1 c2 s2, k j L1 = some (b, L9, c2, s2) → AW K L1 c2 s2 (pc + 3) lv (aR (some j) :: st)) : AW K L mc ms pc lv (aI x :: st) := by
  obtain ⟨⟨hz, hn0, hn1⟩, h⟩ := fw_if_h h
  obtain ⟨c2, s2, h', rfl, rfl⟩ := fw_aux_h h
  intro ad H locs cells slots ls hW hl hs hcs hms hv
  have hw := hW.2.2.2.2.2
  have hao : va_AO C (kx_s K) := by
    have := (fw_zx hK hZ).2.2.2.2.2.2.2.2.2.1 (fw_arr t) (by
      rcases (show t = 5 ∨ t = 6 ∨ t = 7 ∨ t = 8 ∨ t = 9 by omega) with e | e | e | e | e <;> rw [e] <;> decide)
    rw [hC] at this
    exact this
  refine va_newq hK.x hK.b hK.ow (hK.ts _ hq) hao hK.hK hW.1 hW.2.1 hW.2.2.1 hK.hA hn0 rfl (Nat.le_trans (Nat.mul_le_mul_right 4 hn1) (Nat.le_of_ble_eq_true rfl)) (by omega) (by omega) hdg (fun q cA H1 hKK hP hD hS => ?_)
  have hcA : cA = (kx_G K).2.1 t := by
    have h1 := fw_RAn (hKK.2 11 (cA, .object C) rfl).2
    have h2 := fw_RAn (hK.hK.2 t _ (fw_tysAt (by omega))).2
    rw [← hC] at h1
    exact Option.some.inj (h1.symm.trans h2)
  subst hcA
  have he : fw_ent (kx_G K) (lh_new L (100 + t) x.toNatClampNeg) (fw_u1 ad (lh_z L) q) (lh_z L) = .inl ((kx_G K).2.1 t, x.toNatClampNeg, .inr (.inr (.inr (.inr (fun _ => none))))) := by
    unfold fw_ent
    have hk : lh_k (lh_new L (100 + t) x.toNatClampNeg) (lh_z L) = 100 + t := by rw [lh_k_new, fw_u1_self]
    rw [hk, if_neg (by omega), if_neg (by omega), Nat.add_sub_cancel_left, lh_n_new, fw_u1_self]
    unfold fw_rfs
    rw [lh_R_new, fw_u1_self]
    rfl
  have hW' := hW.new hz he hP hD hS
  have e := kk (lh_z L) (lh_new L (100 + t) x.toNatClampNeg) c2 s2 h' (fw_u1 ad (lh_z L) q) H1 locs (cells + 1) (slots + x.toNatClampNeg) ls hW' (fun q hq => okv_mono (Nat.le_succ _) (hl q hq)) (okA (Or.inl (Nat.lt_succ_self _)) (fun v hv => okv_mono (Nat.le_succ _) (ok1 hs v hv))) (by omega) (by omega) (by rw [fw_new_lv hw hl]; exact hv)
  have e2 : (aR (some (lh_z L)) :: st).map (cv (fw_u1 ad (lh_z L) q)) = .ref q :: st.map (cv ad) := by
    rw [List.map_cons, fw_new_st hw (ok1 hs)]
    show Value.ref (fw_u1 ad (lh_z L) q (lh_z L)) :: _ = _
    rw [fw_u1_self]
  rw [e2] at e
  exact e
theorem aw_ck {β : Type} (hK : Ok K cc nL own F Lo) {ci N index : Nat} {C : String} {T : u_T} (hc : fw_cF ci C T N) (hq : Cond.classLink own index C ∈ lw_all) {r : Option Nat} {k : Rs β} {ρ : β × LH × Nat × Nat} (hdg : decode cc pc = .ok (.checkcast index, 3)) (h : fw_ck (ci + 1) L r k = some ρ) (kk : k = some ρ → AW K L mc ms (pc + 3) lv (aR r :: st)) : AW K L mc ms pc lv (aR r :: st) := by
  intro ad H locs cells slots ls hW hl hs hc0 hm hv
  cases r with
  | none => exact lv_castN hK.x hK.b hdg (kk h ad H locs cells slots ls hW hl hs hc0 hm hv)
  | some i =>
    obtain ⟨hk, h'⟩ := fw_if_h (show (if lh_k L i = ci + 1 then k else none) = some ρ from h)
    exact va_castS hK.x hK.b hK.ow (hK.ts _ hq) (hK.hK.1 ci _ hc.1).2 (va_recv hK.hK hW.1 hc.1 (fw_getO hW.2.2.2.2.2 hk hc.2.2.2.2.2.1)) hdg (kk h' ad H locs cells slots ls hW hl hs hc0 hm hv)
theorem aw_cka {β : Type} (hK : Ok K cc nL own F Lo) (t : Nat) (ht : t < 5) {nm : String} {index : Nat} (hnm : "[" ++ (fw_arr t).toString = nm) (hq : Cond.classLink own index nm ∈ lw_all) {r : Option Nat} {k : Rs β} {ρ : β × LH × Nat × Nat} (hdg : decode cc pc = .ok (.checkcast index, 3)) (h : fw_ck (100 + t) L r k = some ρ) (kk : k = some ρ → AW K L mc ms (pc + 3) lv (aR r :: st)) : AW K L mc ms pc lv (aR r :: st) := by
  intro ad H locs cells slots ls hW hl hs hc0 hm hv
  cases r with
  | none => exact lv_castN hK.x hK.b hdg (kk h ad H locs cells slots ls hW hl hs hc0 hm hv)
  | some i =>
    obtain ⟨hk, h'⟩ := fw_if_h (show (if lh_k L i = 100 + t then k else none) = some ρ from h)
    have hn := fw_RAn (hK.hK.2 t _ (fw_tysAt (by omega))).2
    rw [hnm] at hn
    exact va_castA hK.x hK.b hK.ow (hK.ts _ hq) hW.1 i (fw_getA hW.2.2.2.2.2 hk ht) hn hdg (kk h' ad H locs cells slots ls hW hl hs hc0 hm hv)
theorem aw_alx {β : Type} (hK : Ok K cc nL own F Lo) (hZ : fw_isZ K) {j : Nat} {k : Int32 → Rs β} {ρ : β × LH × Nat × Nat} (hdg : decode cc pc = .ok (.arraylength, 1)) (h : fw_alx L j k = some ρ) (kk : ∀ v, k v = some ρ → AW K L mc ms (pc + 1) lv (aI v :: st)) : AW K L mc ms pc lv (aR (some j) :: st) := by
  intro ad H locs cells slots ls hW hl hs hc hm hv
  unfold fw_alx at h
  by_cases hj : j = fw_RO + 4
  · rw [if_pos hj] at h
    subst hj
    have e := kk _ h ad H locs cells slots ls hW hl (okI (ok1 hs)) hc hm hv
    have e0 : (aR (some (fw_RO + 4)) :: st).map (cv ad) = .ref ((kx_G K).2.2 4) :: st.map (cv ad) := by
      rw [← hW.ro hK 4]; rfl
    rw [e0]
    exact va_tlen hK.x hK.b (fw_zx hK hZ).2.1.2 hW.2.2.1 rfl hdg e
  · rw [if_neg hj] at h
    obtain ⟨⟨h1, h3⟩, h'⟩ := fw_if_h h
    exact va_alen hK.x hK.b hK.hK hW.1 j 5 (fw_getQ (t := 5) hW.2.2.2.2.2 h1 (by decide)) (fw_tysAt (by decide)) rfl hdg (kk _ h' ad H locs cells slots ls hW hl (okI (ok1 hs)) hc hm hv)
theorem fw_isD_ne {ad : Nat → Nat} {H : Heap} {locs : List Loc} (hK : Ok K cc nL own F Lo) (hZ : fw_isZ K) (hW : fw_wst K L ad H locs) {j : Nat} (hj : lh_k L j = 105) : ¬ ad j = ad (fw_RO + 4) := by
  intro e
  have h1 := hW.2.1.2 j _ (fw_getQ (G := kx_G K) (ad := ad) (t := 5) hW.2.2.2.2.2 hj (by decide))
  have h2 : ¬ kx_A K ((kx_G K).2.2 4) := (fw_zx hK hZ).2.1.2.out
  rw [← hW.ro hK 4, ← e] at h2
  exact h2 h1
theorem aw_acmpeqD {β : Type} (hK : Ok K cc nL own F Lo) (hZ : fw_isZ K) {r : Option Nat} {off : Int} {tgt : Nat} {A B : Rs β} {ρ : β × LH × Nat × Nat} (hdg : decode cc pc = .ok (.if_acmp .eq off, 3)) (ht : (pc : Int) + off = (tgt : Int)) (h : fw_isD L r A B = some ρ) (kt : A = some ρ → AW K L mc ms tgt lv st) (kf : B = some ρ → AW K L mc ms (pc + 3) lv st) : AW K L mc ms pc lv (aR (some (fw_RO + 4)) :: aR r :: st) := by
  intro ad H locs cells slots ls hW hl hs hc hm hv
  refine lv_acmp_eq (rx := r.map ad) (ry := some (ad (fw_RO + 4))) hK.x hK.b hdg ht (fun q => ?_) (fun q => ?_)
  · cases r with
    | none => cases q
    | some j =>
      have q : ad j = ad (fw_RO + 4) := Option.some.inj q
      have h : (if j = fw_RO + 4 then A else if lh_k L j = 105 then B else none) = some ρ := h
      by_cases hj : j = fw_RO + 4
      · rw [if_pos hj] at h
        exact kt h ad H locs cells slots ls hW hl (ok1 (ok1 hs)) hc hm hv
      · rw [if_neg hj] at h
        obtain ⟨h1, -⟩ := fw_if_h h
        exact absurd q (fw_isD_ne hK hZ hW h1)
  · cases r with
    | none => exact kf h ad H locs cells slots ls hW hl (ok1 (ok1 hs)) hc hm hv
    | some j =>
      have h : (if j = fw_RO + 4 then A else if lh_k L j = 105 then B else none) = some ρ := h
      by_cases hj : j = fw_RO + 4
      · exact absurd (by rw [hj]; rfl) q
      · rw [if_neg hj] at h
        obtain ⟨-, h'⟩ := fw_if_h h
        exact kf h' ad H locs cells slots ls hW hl (ok1 (ok1 hs)) hc hm hv
theorem aw_ldcS (hK : Ok K cc nL own F Lo) (i : Nat) {tx : String} {index : Nat} (hz : vk_R own index tx ((kx_G K).2.2 i) (kx_s K)) (hdg : decode cc pc = .ok (.ldc index, 2)) (kk : AW K L mc ms (pc + 2) lv (aR (some (fw_RO + i)) :: st)) : AW K L mc ms pc lv st := by
  intro ad H locs cells slots ls hW hl hs hc hm hv
  refine va_ldcS hK.x hK.b hK.ow hz hdg ?_
  rw [← hW.ro hK i]
  exact kk ad H locs cells slots ls hW hl (okA okv_ro hs) hc hm hv
theorem aw_sv {β : Type} (hK : Ok K cc nL own F Lo) (hZ : fw_isZ K) {j index : Nat} {ref : String} {k : Option Nat → Rs β} {ρ : β × LH × Nat × Nat} (hq : Cond.fieldLink own index ref "value" "[B" ∈ lw_all) (hsame : ∀ x, (kx_s K).fieldFound? "java/lang/String" "value" "[B" = some x → (kx_s K).fieldFound? ref "value" "[B" = some x) (hdg : decode cc pc = .ok (.getfield index, 3)) (h : fw_sv j k = some ρ) (kk : ∀ v, k v = some ρ → AW K L mc ms (pc + 3) lv (aR v :: st)) : AW K L mc ms pc lv (aR (some j) :: st) := by
  intro ad H locs cells slots ls hW hl hs hc hm hv
  obtain ⟨⟨h1, h2⟩, h'⟩ := fw_if_h h
  obtain ⟨i, rfl⟩ : ∃ i, j = fw_RO + (5 + i) := ⟨j - (fw_RO + 5), by omega⟩
  have hi : i < 4 := by omega
  have e := kk _ h' ad H locs cells slots ls hW hl (okA (Or.inr (by show fw_RO ≤ _; omega)) (ok1 hs)) hc hm hv
  have e0 : (aR (some (fw_RO + (5 + i))) :: st).map (cv ad) = .ref ((kx_G K).2.2 (5 + i)) :: st.map (cv ad) := by
    rw [← hW.ro hK (5 + i)]; rfl
  have e1 : (aR (some (fw_RO + (5 + i) + 4)) :: st).map (cv ad) = .ref ((kx_G K).2.2 (9 + i)) :: st.map (cv ad) := by
    rw [← hW.ro hK (9 + i), show fw_RO + (5 + i) + 4 = fw_RO + (9 + i) by omega]; rfl
  rw [e0]
  rw [e1] at e
  exact vk_getf hK.x hK.b (((fw_zx hK hZ).2.2.1.1).1 i hi).2.2.1 hW.2.2.1 hK.ow (hK.ts _ hq) hsame hdg e
theorem aw_sc {β : Type} (hK : Ok K cc nL own F Lo) (hZ : fw_isZ K) {j index : Nat} {ref : String} {k : Int32 → Rs β} {ρ : β × LH × Nat × Nat} (hq : Cond.fieldLink own index ref "coder" "B" ∈ lw_all) (hsame : ∀ x, (kx_s K).fieldFound? "java/lang/String" "coder" "B" = some x → (kx_s K).fieldFound? ref "coder" "B" = some x) (hdg : decode cc pc = .ok (.getfield index, 3)) (h : fw_sc j k = some ρ) (kk : k (nI 0) = some ρ → AW K L mc ms (pc + 3) lv (aI (nI 0) :: st)) : AW K L mc ms pc lv (aR (some j) :: st) := by
  intro ad H locs cells slots ls hW hl hs hc hm hv
  obtain ⟨⟨h1, h2⟩, h'⟩ := fw_if_h h
  obtain ⟨i, rfl⟩ : ∃ i, j = fw_RO + (5 + i) := ⟨j - (fw_RO + 5), by omega⟩
  have hi : i < 4 := by omega
  have e := kk h' ad H locs cells slots ls hW hl (okI (ok1 hs)) hc hm hv
  have e0 : (aR (some (fw_RO + (5 + i))) :: st).map (cv ad) = .ref ((kx_G K).2.2 (5 + i)) :: st.map (cv ad) := by
    rw [← hW.ro hK (5 + i)]; rfl
  rw [e0]
  exact vk_getf hK.x hK.b (((fw_zx hK hZ).2.2.1.1).1 i hi).2.1 hW.2.2.1 hK.ow (hK.ts _ hq) hsame hdg e
theorem aw_sn {β : Type} (hK : Ok K cc nL own F Lo) (hZ : fw_isZ K) {j : Nat} {k : Int32 → Rs β} {ρ : β × LH × Nat × Nat} (hdg : decode cc pc = .ok (.arraylength, 1)) (h : fw_sn j k = some ρ) (kk : ∀ v, k v = some ρ → AW K L mc ms (pc + 1) lv (aI v :: st)) : AW K L mc ms pc lv (aR (some j) :: st) := by
  intro ad H locs cells slots ls hW hl hs hc hm hv
  obtain ⟨⟨h1, h2⟩, h'⟩ := fw_if_h h
  obtain ⟨i, rfl⟩ : ∃ i, j = fw_RO + (9 + i) := ⟨j - (fw_RO + 9), by omega⟩
  have hi : i < 4 := by omega
  rw [show fw_RO + (9 + i) - (fw_RO + 9) = i by omega] at h'
  have e := kk _ h' ad H locs cells slots ls hW hl (okI (ok1 hs)) hc hm hv
  have e0 : (aR (some (fw_RO + (9 + i))) :: st).map (cv ad) = .ref ((kx_G K).2.2 (9 + i)) :: st.map (cv ad) := by
    rw [← hW.ro hK (9 + i)]; rfl
  rw [e0]
  exact va_tlen hK.x hK.b (((fw_zx hK hZ).2.2.1.1).1 i hi).2.2.2 hW.2.2.1 rfl hdg e
theorem aw_st {β : Type} (hK : Ok K cc nL own F Lo) (hZ : fw_isZ K) {j : Nat} {x : Int32} {k : Int32 → Rs β} {ρ : β × LH × Nat × Nat} (hdg : decode cc pc = .ok (.baload, 1)) (h : fw_st j x k = some ρ) (kk : ∀ v, k v = some ρ → AW K L mc ms (pc + 1) lv (aI v :: st)) : AW K L mc ms pc lv (aI x :: aR (some j) :: st) := by
  intro ad H locs cells slots ls hW hl hs hc hm hv
  obtain ⟨⟨⟨h1, h2⟩, hin⟩, h'⟩ := fw_if_h h
  obtain ⟨i, rfl⟩ : ∃ i, j = fw_RO + (9 + i) := ⟨j - (fw_RO + 9), by omega⟩
  have hi : i < 4 := by omega
  rw [show fw_RO + (9 + i) - (fw_RO + 9) = i by omega] at h' hin
  have e := kk _ h' ad H locs cells slots ls hW hl (okI (ok1 (ok1 hs))) hc hm hv
  have e0 : (aI x :: aR (some (fw_RO + (9 + i))) :: st).map (cv ad) = .int x :: .ref ((kx_G K).2.2 (9 + i)) :: st.map (cv ad) := by
    rw [← hW.ro hK (9 + i)]; rfl
  rw [e0]
  exact va_tb hK.x hK.b (((fw_zx hK hZ).2.2.1.1).1 i hi).2.2.2 hW.2.2.1 hin rfl hdg e
/-- System.arraycopy of ints, bytes, shorts within bounds -/
def fw_cpL (L : LH) (j sp i dp n : Nat) : LH := (lh_k L, fw_u1 (lh_I L) i (va_cpy (lh_I L j) (lh_I L i) sp dp n), lh_R L, lh_n L, lh_z L)
def fw_fit (t : Nat) (f : Nat → Int32) (sp n : Nat) : Bool := (List.range n).all (fun i => fits (fw_arr t) (.int (f (sp + i))))
def fw_cp {β : Type} (t : Nat) (L : LH) (j : Nat) (sp : Int32) (i : Nat) (dp n : Int32) (k : LH → Rs β) : Rs β :=
  if (lh_k L j = 100 + t ∧ lh_k L i = 100 + t) ∧ (¬ sp < 0 ∧ ¬ dp < 0 ∧ ¬ n < 0) ∧ (sp.toNatClampNeg + n.toNatClampNeg ≤ lh_n L j ∧ dp.toNatClampNeg + n.toNatClampNeg ≤ lh_n L i) ∧ fw_fit t (lh_I L j) sp.toNatClampNeg n.toNatClampNeg = true then k (fw_cpL L j sp.toNatClampNeg i dp.toNatClampNeg n.toNatClampNeg) else none
theorem aw_copy {β : Type} (hK : Ok K cc nL own F Lo) (t : Nat) (ht : t < 3) {index j i : Nat} {sp dp n : Int32} (hq1 : Cond.methodLink own index arraycopyName ∈ lw_all) (hq2 : Cond.native arraycopyName ∈ lw_all) (hq3 : Cond.static arraycopyName ∈ lw_all) (hq4 : Cond.initialized "java/lang/System" ∈ lw_all) {k : LH → Rs β} {ρ : β × LH × Nat × Nat} (hdg : decode cc pc = .ok (.invokestatic index, 3)) (hF : 1 ≤ F ∧ (st.map catA).sum + (nativeFrameWords "java/lang/System" "arraycopy" 5 + 11) ≤ Lo) (h : fw_cp t L j sp i dp n k = some ρ) (kk : ∀ L1, k L1 = some ρ → AW K L1 mc ms (pc + 3) lv st) : AW K L mc ms pc lv (aI n :: aI dp :: aR (some i) :: aI sp :: aR (some j) :: st) := by
  intro ad H locs cells slots ls hW hl hs hc hm hv
  obtain ⟨⟨⟨hk1, hk2⟩, ⟨p1, p2, p3⟩, ⟨p4, p5⟩, p6⟩, h'⟩ := fw_if_h h
  have hw := hW.2.2.2.2.2
  have hset : (fw_wl (kx_G K) L ad).set i (ad i, .inl ((kx_G K).2.1 t, lh_n L i, .inl (va_cpy (lh_I L j) (lh_I L i) sp.toNatClampNeg dp.toNatClampNeg n.toNatClampNeg))) = fw_wl (kx_G K) (fw_cpL L j sp.toNatClampNeg i dp.toNatClampNeg n.toNatClampNeg) ad := by
    refine fw_set rfl ?_ fun x hx => fw_ent_congr rfl (fw_u1_ne _ _ hx) rfl rfl
    unfold fw_ent
    have hk : lh_k (fw_cpL L j sp.toNatClampNeg i dp.toNatClampNeg n.toNatClampNeg) i = 100 + t := hk2
    rw [hk, if_neg (by omega), if_pos (by omega), Nat.add_sub_cancel_left]
    show Sum.inl (_, lh_n L i, Sum.inl (fw_u1 (lh_I L) i _ i)) = _
    rw [fw_u1_self]
  have hcat : (((st.map (cv ad)).map fun v => v.category).sum) = (st.map catA).sum := by
    rw [List.map_map]
    congr 2
    funext v
    exact cv_cat ad v
  exact va_copyi hK.x hK.b (by rw [hv.1]) hK.ow (hK.ts _ hq1) (hK.ts _ hq2) (hK.ts _ hq3) (hK.ts _ hq4) hK.hK hW.1 hW.2.1 hW.2.2.1 j i t t (fw_getA hw hk1 (by omega)) (fw_getA hw hk2 (by omega)) (fw_tysAt (by omega)) (fw_tysAt (by omega)) (by rcases (show t = 0 ∨ t = 1 ∨ t = 2 by omega) with e | e | e <;> rw [e] <;> rfl) p1 p2 p3 p4 p5 (fun x hx => List.all_eq_true.mp p6 x (List.mem_range.mpr hx)) (by rw [hK.fr]; exact hF.1) (by rw [hcat, hK.lo]; exact hF.2) hdg (fun H1 locs1 hP hD hS => kk _ h' ad H1 locs1 cells slots ls (hW.put hset hP hD hS rfl hw) hl (ok1 (ok1 (ok1 (ok1 (ok1 hs))))) hc hm hv)
end RowsX
