set_option maxRecDepth 100000
/-! The logical heap: kinds, numbers, references, lengths, the next id. A kind: 0 nothing, c + 1 an object of class c of fw_cls, 100 + t an array of type t of fw_arr. A reference is an id; ids from fw_RO on are cells that stand from the start and are never written. -/
abbrev LH : Type := (Nat → Nat) × (Nat → Nat → Int32) × (Nat → Nat → Option Nat) × (Nat → Nat) × Nat
def lh_k (L : LH) : Nat → Nat := L.1
def lh_I (L : LH) : Nat → Nat → Int32 := L.2.1
def lh_R (L : LH) : Nat → Nat → Option Nat := L.2.2.1
def lh_n (L : LH) : Nat → Nat := L.2.2.2.1
def lh_z (L : LH) : Nat := L.2.2.2.2
def fw_u2 {α : Type} (f : Nat → Nat → α) (j x : Nat) (v : α) : Nat → Nat → α := fun a b => if a = j ∧ b = x then v else f a b
def fw_u1 {α : Type} (f : Nat → α) (j : Nat) (v : α) : Nat → α := fun a => if a = j then v else f a
def lh_sI (L : LH) (j x : Nat) (v : Int32) : LH := (lh_k L, fw_u2 (lh_I L) j x v, lh_R L, lh_n L, lh_z L)
def lh_sR (L : LH) (j x : Nat) (v : Option Nat) : LH := (lh_k L, lh_I L, fw_u2 (lh_R L) j x v, lh_n L, lh_z L)
/-- a new cell of kind k and length n, nothing in it -/
def lh_new (L : LH) (k n : Nat) : LH := (fw_u1 (lh_k L) (lh_z L) k, fw_u1 (lh_I L) (lh_z L) (fun _ => 0), fw_u1 (lh_R L) (lh_z L) (fun _ => none), fw_u1 (lh_n L) (lh_z L) n, lh_z L + 1)
theorem lh_k_sI (L : LH) (j x : Nat) (v : Int32) : lh_k (lh_sI L j x v) = lh_k L := rfl
theorem lh_I_sI (L : LH) (j x : Nat) (v : Int32) : lh_I (lh_sI L j x v) = fw_u2 (lh_I L) j x v := rfl
theorem lh_R_sI (L : LH) (j x : Nat) (v : Int32) : lh_R (lh_sI L j x v) = lh_R L := rfl
theorem lh_n_sI (L : LH) (j x : Nat) (v : Int32) : lh_n (lh_sI L j x v) = lh_n L := rfl
theorem lh_z_sI (L : LH) (j x : Nat) (v : Int32) : lh_z (lh_sI L j x v) = lh_z L := rfl
theorem lh_k_sR (L : LH) (j x : Nat) (v : Option Nat) : lh_k (lh_sR L j x v) = lh_k L := rfl
theorem lh_I_sR (L : LH) (j x : Nat) (v : Option Nat) : lh_I (lh_sR L j x v) = lh_I L := rfl
theorem lh_R_sR (L : LH) (j x : Nat) (v : Option Nat) : lh_R (lh_sR L j x v) = fw_u2 (lh_R L) j x v := rfl
theorem lh_n_sR (L : LH) (j x : Nat) (v : Option Nat) : lh_n (lh_sR L j x v) = lh_n L := rfl
theorem lh_z_sR (L : LH) (j x : Nat) (v : Option Nat) : lh_z (lh_sR L j x v) = lh_z L := rfl
theorem lh_k_new (L : LH) (k n : Nat) : lh_k (lh_new L k n) = fw_u1 (lh_k L) (lh_z L) k := rfl
theorem lh_I_new (L : LH) (k n : Nat) : lh_I (lh_new L k n) = fw_u1 (lh_I L) (lh_z L) (fun _ => 0) := rfl
theorem lh_R_new (L : LH) (k n : Nat) : lh_R (lh_new L k n) = fw_u1 (lh_R L) (lh_z L) (fun _ => none) := rfl
theorem lh_n_new (L : LH) (k n : Nat) : lh_n (lh_new L k n) = fw_u1 (lh_n L) (lh_z L) n := rfl
theorem lh_z_new (L : LH) (k n : Nat) : lh_z (lh_new L k n) = lh_z L + 1 := rfl
theorem fw_u2_self {α : Type} (f : Nat → Nat → α) (j x : Nat) (v : α) : fw_u2 f j x v j x = v := by simp [fw_u2]
theorem fw_u2_ne {α : Type} (f : Nat → Nat → α) {j x a b : Nat} (v : α) (h : ¬ (a = j ∧ b = x)) : fw_u2 f j x v a b = f a b := if_neg h
theorem fw_u2_ne1 {α : Type} (f : Nat → Nat → α) {j a : Nat} (x : Nat) (v : α) (h : a ≠ j) : fw_u2 f j x v a = f a := by funext b; exact if_neg (fun q => h q.1)
theorem fw_u1_self {α : Type} (f : Nat → α) (j : Nat) (v : α) : fw_u1 f j v j = v := by simp [fw_u1]
theorem fw_u1_ne {α : Type} (f : Nat → α) {j a : Nat} (v : α) (h : a ≠ j) : fw_u1 f j v a = f a := if_neg h
/-- a value: an int, a long, a reference -/
abbrev AV : Type := Int32 ⊕ (Int64 ⊕ Option Nat)
abbrev aI (x : Int32) : AV := .inl x
abbrev aL (x : Int64) : AV := .inr (.inl x)
abbrev aR (r : Option Nat) : AV := .inr (.inr r)
def cv (ad : Nat → Nat) : AV → Value
  | .inl x => .int x
  | .inr (.inl x) => .long x
  | .inr (.inr r) => va_rf (r.map ad)
def catA : AV → Nat
  | .inl _ => 1
  | .inr (.inl _) => 2
  | .inr (.inr _) => 1
theorem cv_cat (ad : Nat → Nat) (v : AV) : (cv ad v).category = catA v := by
  rcases v with x | x | r
  · rfl
  · rfl
  · cases r <;> rfl
def fw_RO : Nat := 1000000
def okv (z : Nat) : AV → Prop
  | .inr (.inr (some j)) => j < z ∨ fw_RO ≤ j
  | _ => True
theorem okv_I {z : Nat} (x : Int32) : okv z (aI x) := trivial
theorem okv_L {z : Nat} (x : Int64) : okv z (aL x) := trivial
theorem okv_N {z : Nat} : okv z (aR none) := trivial
theorem okv_mono {z z' : Nat} (h : z ≤ z') {v : AV} (hv : okv z v) : okv z' v := by
  rcases v with x | x | r
  · trivial
  · trivial
  · cases r with
    | none => trivial
    | some j => exact hv.imp (fun q => Nat.lt_of_lt_of_le q h) (fun q => q)
theorem cv_agree {ad ad' : Nat → Nat} {z : Nat} (h : ∀ j, j < z ∨ fw_RO ≤ j → ad' j = ad j) {v : AV} (hv : okv z v) : cv ad' v = cv ad v := by
  rcases v with x | x | r
  · rfl
  · rfl
  · cases r with
    | none => rfl
    | some j => show Value.ref (ad' j) = Value.ref (ad j); rw [h j hv]
/-- the classes that a run makes objects of -/
abbrev fw_cls : List vw_C := [(RX0, TX0, 25), (RX2, TX2, 6), (RX3, TX3, 7), (RX4, TX4, 1), (RJ2, TJ2, 3), (RX7, TX7, 3), (RX6, TX6, 7), (RX5, TX5, 47)]
def fw_ty : Nat → Nat → FieldType
  | 0 => tyX0
  | 1 => tyX2
  | 2 => tyX3
  | 3 => tyX4
  | 4 => tyJ2
  | 5 => tyX7
  | 6 => tyX6
  | _ => tyX5
def fw_N : Nat → Nat
  | 0 => 25
  | 1 => 6
  | 2 => 7
  | 3 => 1
  | 4 => 3
  | 5 => 3
  | 6 => 7
  | _ => 47
def fw_ref : FieldType → Bool
  | .object _ => true
  | .array _ => true
  | _ => false
/-- the classes' types of arrays -/
def fw_arr : Nat → FieldType
  | 0 => .int
  | 1 => .byte
  | 2 => .short
  | 3 => .boolean
  | 4 => .boolean
  | 5 => .object "java/lang/Object"
  | 6 => .object "TugOfWar$Team"
  | 7 => .object "TugOfWar$Captain"
  | 8 => .object "TugOfWar$Text"
  | 9 => .object "TugOfWar$Sheet"
  | _ => .array .int
abbrev Gx : Type := va_G × (Nat → ClassId) × (Nat → Nat)
def fw_tys (G : Gx) : List (ClassId × FieldType) := (List.range 11).map (fun t => (G.2.1 t, fw_arr t))
def fw_fld (L : LH) (ad : Nat → Nat) (ci j k : Nat) : Value := if fw_ref (fw_ty ci k) = true then va_rf ((lh_R L j k).map ad) else .int (lh_I L j k)
def fw_flds (L : LH) (ad : Nat → Nat) (ci j : Nat) : List Value := (List.range (fw_N ci)).map (fw_fld L ad ci j)
def fw_rfs (L : LH) (ad : Nat → Nat) (j : Nat) : Nat → Option Nat := fun x => (lh_R L j x).map ad
def fw_ent (G : Gx) (L : LH) (ad : Nat → Nat) (j : Nat) : va_E :=
  if lh_k L j < 100 then .inr (lh_k L j - 1, fw_flds L ad (lh_k L j - 1) j)
  else if lh_k L j < 105 then .inl (G.2.1 (lh_k L j - 100), lh_n L j, .inl (lh_I L j))
  else .inl (G.2.1 (lh_k L j - 100), lh_n L j, .inr (.inr (.inr (.inr (fw_rfs L ad j)))))
def fw_wl (G : Gx) (L : LH) (ad : Nat → Nat) : va_W := (List.range (lh_z L)).map (fun j => (ad j, fw_ent G L ad j))
/-- a heap's own order: nothing from the next id on; references are to what is there -/
def fw_wf (L : LH) : Prop := (∀ j, lh_z L ≤ j → lh_k L j = 0) ∧ lh_z L < fw_RO ∧ (∀ j x i, lh_R L j x = some i → i < lh_z L ∨ fw_RO ≤ i)
theorem fw_wf.lt {L : LH} (h : fw_wf L) {j c : Nat} (hk : lh_k L j = c + 1) : j < lh_z L := by
  rcases Nat.lt_or_ge j (lh_z L) with q | q
  · exact q
  · rw [h.1 j q] at hk; cases hk
theorem fw_get {G : Gx} {L : LH} {ad : Nat → Nat} {j : Nat} (h : j < lh_z L) : (fw_wl G L ad)[j]? = some (ad j, fw_ent G L ad j) := by
  unfold fw_wl
  rw [List.getElem?_map, List.getElem?_range h]
  rfl
theorem fw_getO {G : Gx} {L : LH} {ad : Nat → Nat} {j ci : Nat} (hw : fw_wf L) (hk : lh_k L j = ci + 1) (hc : ci < 50) : (fw_wl G L ad)[j]? = some (ad j, .inr (ci, fw_flds L ad ci j)) := by
  rw [fw_get (hw.lt hk)]
  unfold fw_ent
  rw [hk, if_pos (by omega)]
  rfl
theorem fw_getA {G : Gx} {L : LH} {ad : Nat → Nat} {j t : Nat} (hw : fw_wf L) (hk : lh_k L j = 100 + t) (ht : t < 5) : (fw_wl G L ad)[j]? = some (ad j, .inl (G.2.1 t, lh_n L j, .inl (lh_I L j))) := by
  have hl : j < lh_z L := hw.lt (c := 99 + t) (by rw [hk]; omega)
  rw [fw_get hl]
  unfold fw_ent
  rw [hk, if_neg (by omega), if_pos (by omega), Nat.add_sub_cancel_left]
theorem fw_getQ {G : Gx} {L : LH} {ad : Nat → Nat} {j t : Nat} (hw : fw_wf L) (hk : lh_k L j = 100 + t) (ht : 5 ≤ t) : (fw_wl G L ad)[j]? = some (ad j, .inl (G.2.1 t, lh_n L j, .inr (.inr (.inr (.inr (fw_rfs L ad j)))))) := by
  have hl : j < lh_z L := hw.lt (c := 99 + t) (by rw [hk]; omega)
  rw [fw_get hl]
  unfold fw_ent
  rw [hk, if_neg (by omega), if_neg (by omega), Nat.add_sub_cancel_left]
theorem fw_len {G : Gx} {L : LH} {ad : Nat → Nat} : (fw_wl G L ad).length = lh_z L := by simp [fw_wl]
theorem fw_in {G : Gx} {L : LH} {ad : Nat → Nat} {k : Nat} {q : Nat × va_E} (h : (fw_wl G L ad)[k]? = some q) : k < lh_z L ∧ q = (ad k, fw_ent G L ad k) := by
  have hl : k < lh_z L := by
    have := (List.getElem?_eq_some_iff.mp h).1
    rwa [fw_len] at this
  rw [fw_get hl] at h
  exact ⟨hl, (Option.some.inj h).symm⟩
theorem fw_set {G : Gx} {L L' : LH} {ad : Nat → Nat} {j : Nat} {e : va_E} (hz : lh_z L' = lh_z L) (he : fw_ent G L' ad j = e) (ho : ∀ i, i ≠ j → fw_ent G L' ad i = fw_ent G L ad i) : (fw_wl G L ad).set j (ad j, e) = fw_wl G L' ad := by
  apply List.ext_getElem?
  intro k
  by_cases hk : k < lh_z L
  · rw [fw_get (L := L') (by rw [hz]; exact hk)]
    by_cases hj : k = j
    · subst hj
      rw [List.getElem?_set_self (by rw [fw_len]; exact hk), he]
    · rw [List.getElem?_set_ne (fun q => hj q.symm), fw_get hk, ho k hj]
  · rw [List.getElem?_eq_none (by rw [List.length_set, fw_len]; omega), List.getElem?_eq_none (by rw [fw_len, hz]; omega)]
theorem fw_push {G : Gx} {L L' : LH} {ad ad' : Nat → Nat} {q : Nat} {e : va_E} (hz : lh_z L' = lh_z L + 1) (ha : ad' (lh_z L) = q) (he : fw_ent G L' ad' (lh_z L) = e) (ho : ∀ i, i < lh_z L → ad' i = ad i ∧ fw_ent G L' ad' i = fw_ent G L ad i) : fw_wl G L ad ++ [(q, e)] = fw_wl G L' ad' := by
  apply List.ext_getElem?
  intro k
  rcases Nat.lt_trichotomy k (lh_z L) with hk | hk | hk
  · rw [List.getElem?_append_left (by rw [fw_len]; exact hk), fw_get hk, fw_get (by omega), (ho k hk).1, (ho k hk).2]
  · subst hk
    rw [List.getElem?_append_right (by rw [fw_len]; exact Nat.le_refl _), fw_len, Nat.sub_self, fw_get (by omega), ha, he]
    rfl
  · rw [List.getElem?_eq_none (by rw [List.length_append, fw_len]; simp; omega), List.getElem?_eq_none (by rw [fw_len, hz]; omega)]
theorem fw_ent_congr {G : Gx} {L L' : LH} {ad ad' : Nat → Nat} {i : Nat} (h1 : lh_k L' i = lh_k L i) (h2 : lh_I L' i = lh_I L i) (h3 : fw_rfs L' ad' i = fw_rfs L ad i) (h4 : lh_n L' i = lh_n L i) : fw_ent G L' ad' i = fw_ent G L ad i := by
  have hf : ∀ ci, fw_flds L' ad' ci i = fw_flds L ad ci i := by
    intro ci
    unfold fw_flds
    congr 1
    funext k
    unfold fw_fld
    rw [h2]
    have := congrFun h3 k
    unfold fw_rfs at this
    rw [this]
  unfold fw_ent
  rw [h1, h2, h3, h4, hf]
theorem fw_setA {G : Gx} {L : LH} {ad : Nat → Nat} {j t x : Nat} {v : Int32} (hk : lh_k L j = 100 + t) (ht : t < 5) : (fw_wl G L ad).set j (ad j, .inl (G.2.1 t, lh_n L j, .inl (upd (lh_I L j) x v))) = fw_wl G (lh_sI L j x v) ad := by
  refine fw_set rfl ?_ fun i hi => fw_ent_congr rfl (fw_u2_ne1 _ _ _ hi) rfl rfl
  unfold fw_ent
  rw [lh_k_sI, hk, if_neg (by omega), if_pos (by omega), Nat.add_sub_cancel_left, lh_n_sI]
  have e : lh_I (lh_sI L j x v) j = upd (lh_I L j) x v := by
    funext b
    rw [lh_I_sI]
    unfold fw_u2 upd
    by_cases hb : b = x <;> simp [hb]
  rw [e]
theorem fw_setQ {G : Gx} {L : LH} {ad : Nat → Nat} {j t x : Nat} {v : Option Nat} (hk : lh_k L j = 100 + t) (ht : 5 ≤ t) : (fw_wl G L ad).set j (ad j, .inl (G.2.1 t, lh_n L j, .inr (.inr (.inr (.inr (va_up (fw_rfs L ad j) x (v.map ad))))))) = fw_wl G (lh_sR L j x v) ad := by
  refine fw_set rfl ?_ fun i hi => fw_ent_congr rfl rfl (by unfold fw_rfs; rw [lh_R_sR, fw_u2_ne1 _ _ _ hi]) rfl
  unfold fw_ent
  rw [lh_k_sR, hk, if_neg (by omega), if_neg (by omega), Nat.add_sub_cancel_left, lh_n_sR]
  have e : fw_rfs (lh_sR L j x v) ad j = va_up (fw_rfs L ad j) x (v.map ad) := by
    funext b
    unfold fw_rfs
    rw [lh_R_sR]
    unfold fw_u2 va_up
    by_cases hb : b = x <;> simp [hb]
  rw [e]
theorem fw_flds_at {L : LH} {ad : Nat → Nat} {ci j k : Nat} (h : k < fw_N ci) : (fw_flds L ad ci j)[k]? = some (fw_fld L ad ci j k) := by
  unfold fw_flds
  rw [List.getElem?_map, List.getElem?_range h]
  rfl
theorem fw_flds_len {L : LH} {ad : Nat → Nat} {ci j : Nat} : (fw_flds L ad ci j).length = fw_N ci := by simp [fw_flds]
theorem fw_flds_set {L L' : LH} {ad : Nat → Nat} {ci j k : Nat} {v : Value} (hv : fw_fld L' ad ci j k = v) (ho : ∀ x, x ≠ k → fw_fld L' ad ci j x = fw_fld L ad ci j x) : (fw_flds L ad ci j).set k v = fw_flds L' ad ci j := by
  apply List.ext_getElem?
  intro x
  by_cases hx : x < fw_N ci
  · rw [fw_flds_at hx]
    by_cases he : x = k
    · subst he
      rw [List.getElem?_set_self (by rw [fw_flds_len]; exact hx), hv]
    · rw [List.getElem?_set_ne (fun q => he q.symm), fw_flds_at hx, ho x he]
  · rw [List.getElem?_eq_none (by rw [List.length_set, fw_flds_len]; omega), List.getElem?_eq_none (by rw [fw_flds_len]; omega)]
theorem fw_setI {G : Gx} {L : LH} {ad : Nat → Nat} {j ci k : Nat} {v : Int32} (hk : lh_k L j = ci + 1) (hc : ci < 50) (hr : fw_ref (fw_ty ci k) = false) : (fw_wl G L ad).set j (ad j, .inr (ci, (fw_flds L ad ci j).set k (.int v))) = fw_wl G (lh_sI L j k v) ad := by
  refine fw_set rfl ?_ fun i hi => fw_ent_congr rfl (fw_u2_ne1 _ _ _ hi) rfl rfl
  unfold fw_ent
  rw [lh_k_sI, hk, if_pos (by omega), Nat.add_sub_cancel]
  congr 2
  refine (fw_flds_set ?_ fun x hx => ?_).symm
  · unfold fw_fld
    rw [if_neg (by rw [hr]; exact Bool.false_ne_true), lh_I_sI, fw_u2_self]
  · unfold fw_fld
    rw [lh_I_sI, fw_u2_ne _ _ (fun q => hx q.2), lh_R_sI]
theorem fw_setR {G : Gx} {L : LH} {ad : Nat → Nat} {j ci k : Nat} {v : Option Nat} (hk : lh_k L j = ci + 1) (hc : ci < 50) (hr : fw_ref (fw_ty ci k) = true) : (fw_wl G L ad).set j (ad j, .inr (ci, (fw_flds L ad ci j).set k (va_rf (v.map ad)))) = fw_wl G (lh_sR L j k v) ad := by
  refine fw_set rfl ?_ fun i hi => fw_ent_congr rfl rfl (by unfold fw_rfs; rw [lh_R_sR, fw_u2_ne1 _ _ _ hi]) rfl
  unfold fw_ent
  rw [lh_k_sR, hk, if_pos (by omega), Nat.add_sub_cancel]
  congr 2
  refine (fw_flds_set ?_ fun x hx => ?_).symm
  · unfold fw_fld
    rw [if_pos hr, lh_R_sR, fw_u2_self]
  · unfold fw_fld
    rw [lh_R_sR, fw_u2_ne _ _ (fun q => hx q.2), lh_I_sR]
theorem fw_wf.sI {L : LH} (h : fw_wf L) (j x : Nat) (v : Int32) : fw_wf (lh_sI L j x v) := h
theorem fw_wf.sR {L : LH} (h : fw_wf L) (j x : Nat) {v : Option Nat} (hv : okv (lh_z L) (aR v)) : fw_wf (lh_sR L j x v) := by
  refine ⟨h.1, h.2.1, fun a b i hi => ?_⟩
  rw [lh_R_sR] at hi
  by_cases q : a = j ∧ b = x
  · rw [q.1, q.2, fw_u2_self] at hi
    subst hi
    exact hv
  · rw [fw_u2_ne _ _ q] at hi
    exact h.2.2 a b i hi
theorem fw_wf.new {L : LH} (h : fw_wf L) (k n : Nat) (hz : lh_z L + 1 < fw_RO) : fw_wf (lh_new L k n) := by
  refine ⟨fun j hj => ?_, hz, fun a b i hi => ?_⟩
  · have hj : lh_z L + 1 ≤ j := hj
    rw [lh_k_new, fw_u1_ne _ _ (by omega)]
    exact h.1 j (by omega)
  · rw [lh_R_new] at hi
    by_cases q : a = lh_z L
    · rw [q, fw_u1_self] at hi
      cases hi
    · rw [fw_u1_ne _ _ q] at hi
      exact (h.2.2 a b i hi).imp (fun z => Nat.lt_succ_of_lt z) (fun z => z)
