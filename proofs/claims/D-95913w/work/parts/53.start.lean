set_option maxRecDepth 100000
/-! THE CLAIM OUT OF ONE WALK OF THE LAW'S BODY. Your part is whole_start (and what it stands on); all else here is the same for every law, but numbers. -/
def R_law : String := "TugOfWarLaw"
def lw_P (b : Addr) (xs : List Int32) (args : Array Value) (s : State) : Prop := args = #[.ref b] ∧ s.IntsAt b xs ∧ xs.length ≤ 384 ∧ (Jvm.Cond.and given_1 narrow_1).before args s = true ∧ modulesRight_1 s = true
def lw_Q (_ : Array Value) (s : State) (o : Outcome) (t : State) : Prop := o = .returned (some (.int 1)) ∧ Framed s o t [] 603072 7262314
def lw_Z (below : List Frame) (a : Array Value) (s : State) : State → Prop := fun t => ∃ o, t.status = .running ∧ Ended t below o ∧ lw_Q a s o t
/-- the law's own end, with 1 on the stack, nothing written that was there before, its room as the claim has it -/
theorem lw_ret {p : Program} {l : Launch} {e : Env} {s : State} {m : MethodId} {below : List Frame} {meth : Method} {c : Code} {b : Nat} (hx : p.tables.exec = Jvm.exec) (hb : c.code = code) (hr : meth.sig.returnType = ret) (hlocks : meth.locks = false) {pc : Nat} {H : Heap} {ls : Array Slot} (hdg : decode code pc = .ok (.ireturn, 1)) : W p l e room_1 s m #[Value.ref b] below meth c H [] 603072 7262314 (lw_Z below #[Value.ref b] s) (F0 m pc ls [.int 1]) := by
  intro T hT X
  obtain ⟨fs, hret, hrun, hended, hW, hframe⟩ := X.leave (v := some (.int 1)) (hlocks := hlocks) (fun h => by rw [hr] at h; cases h)
  have hmeth' : T.vm.method? m = some meth := X.method'
  refine ⟨T.setFrames fs, ?_, .returned (some (.int 1)), hrun, hended, rfl, ⟨_, rfl⟩, hW, hframe⟩
  jvm_step X.here [X.here.top, hx, hb, hdg, hmeth', hr, ret, narrow_b1]
  (try refine ⟨rfl, ?_⟩); (try refine ⟨rfl, ?_⟩)
  first | (intro acts; rw [hret _ acts rfl rfl rfl]) | rw [hret _ _ rfl rfl rfl]
  exact Steps.refl _
/-- what holds at the law's entry: the machine, the code, the tables' words (any of lw_tbl by 'hts w (by decide +kernel)'), the script of L ints xs at the cell b, what the Statement gives of the start (any of its parts by flat_of_before), and the start's premise that stands beside rest_1's words -/
def lw_At (p : Program) (s : State) (m : MethodId) (meth : Method) (c : Code) (b L : Nat) (xs : Nat → Int32) : Prop :=
  p.tables.exec = Jvm.exec ∧ c.code = code ∧ meth.sig.returnType = ret ∧ c.maxLocals = 4 ∧ s.vm.findClass R_law = some m.cls ∧ (∀ w ∈ lw_tbl, w.before #[Value.ref b] s = true) ∧ va_X b L xs s s.heap ∧ b < s.heap.size ∧ meth.locks = false ∧ (Jvm.Cond.and given_1 narrow_1).before #[Value.ref b] s = true ∧ modulesRight_1 s = true
section Start
variable {s : State} {b : Nat}
def st_A (s : State) : Nat → Prop := fun q => s.heap.size ≤ q
theorem st_nA {s : State} : ∀ a : Nat, a < s.heap.size → ¬ st_A s a := fun _ h => Nat.not_le.mpr h
def st_ts (s : State) (b : Nat) : Prop := ∀ w ∈ lw_tbl, w.before #[Value.ref b] s = true
def st_nr (s : State) (b : Nat) : Prop := ∀ w ∈ flatC (Jvm.Cond.and given_1 narrow_1), w.before #[Value.ref b] s = true
/-- the class's number and its array's -/
theorem st_D (ht : st_ts s b) : ∃ D : va_G, ∀ (c : Nat) (q : vw_C), fw_cls[c]? = some q → u_Kn s q.1 q.2.1 q.2.2 (D.1 c) (D.2 c) := by
  obtain ⟨c0, i0, k0⟩ := u_known (C := RX0) (T := TX0) (N := 25) (n := 25) ht (fun w h => lw_all_tbl (in_X0 w h)) (ht _ (lw_all_tbl q123))
  obtain ⟨c1, i1, k1⟩ := u_known (C := RX2) (T := TX2) (N := 6) (n := 6) ht (fun w h => lw_all_tbl (in_X2 w h)) (ht _ (lw_all_tbl q132))
  obtain ⟨c2, i2, k2⟩ := u_known (C := RX3) (T := TX3) (N := 7) (n := 7) ht (fun w h => lw_all_tbl (in_X3 w h)) (ht _ (lw_all_tbl q189))
  obtain ⟨c3, i3, k3⟩ := u_known (C := RX4) (T := TX4) (N := 1) (n := 1) ht (fun w h => lw_all_tbl (in_X4 w h)) (ht _ (lw_all_tbl q216))
  obtain ⟨c4, i4, k4⟩ := u_known (C := RJ2) (T := TJ2) (N := 3) (n := 3) ht (fun w h => lw_all_tbl (in_J2 w h)) (ht _ (lw_all_tbl q141))
  obtain ⟨c5, i5, k5⟩ := u_known (C := RX7) (T := TX7) (N := 3) (n := 3) ht (fun w h => lw_all_tbl (in_X7 w h)) (ht _ (lw_all_tbl q563))
  obtain ⟨c6, i6, k6⟩ := u_known (C := RX6) (T := TX6) (N := 7) (n := 7) ht (fun w h => lw_all_tbl (in_X6 w h)) (ht _ (lw_all_tbl q388))
  obtain ⟨c7, i7, k7⟩ := u_known (C := RX5) (T := TX5) (N := 47) (n := 47) ht (fun w h => lw_all_tbl (in_X5 w h)) (ht _ (lw_all_tbl q1188))
  refine ⟨(fun c => match c with
    | 0 => c0 | 1 => c1 | 2 => c2 | 3 => c3 | 4 => c4 | 5 => c5 | 6 => c6 | _ => c7, fun c => match c with
    | 0 => i0 | 1 => i1 | 2 => i2 | 3 => i3 | 4 => i4 | 5 => i5 | 6 => i6 | _ => i7), fun c q hq => ?_⟩
  match c with
  | 0 => cases hq; exact k0
  | 1 => cases hq; exact k1
  | 2 => cases hq; exact k2
  | 3 => cases hq; exact k3
  | 4 => cases hq; exact k4
  | 5 => cases hq; exact k5
  | 6 => cases hq; exact k6
  | 7 => cases hq; exact k7
  | n + 8 => cases hq
theorem st_arrP {ty : FieldType} (hp : ∀ C, ty ≠ .object C) (h : (Cond.arrayClass ty).before #[Value.ref b] s = true) : ∃ cA, ArrOfT s cA ty ∧ va_RA s cA ty := by
  obtain ⟨cA, kA, comp, h1, h2, h3⟩ := Cond.arrayClass_spec h
  refine ⟨cA, fun n z => ⟨fun k h => (by cases h), kA, h2, comp, h3⟩, ?_⟩
  cases ty with
  | object C => exact (hp C rfl).elim
  | _ => exact h1
theorem st_arrO {C : String} (h : (Cond.arrayOver (.object C)).before #[Value.ref b] s = true) : ∃ cA, ArrOfT s cA (.object C) ∧ va_RA s cA (.object C) := by
  obtain ⟨comp, c, k, h1, h2, h3, h4, h5⟩ := Cond.arrayOver_spec h
  exact ⟨c, fun n z => ⟨fun k h => (by cases h), k, h3, comp, h4⟩, k, comp, h3, h4, h1, h5⟩
theorem st_arrI (h : (Cond.arrayOver (.array .int)).before #[Value.ref b] s = true) : ∃ cA, ArrOfT s cA (.array .int) ∧ va_RA s cA (.array .int) := by
  simp only [Cond.before, Cond.holds, Cond.value, beq_iff_eq] at h
  cases hc : s.vm.findClass (FieldType.array .int).toString with
  | none => rw [hc] at h; cases h
  | some comp =>
    rw [hc] at h
    simp only [Option.bind_some, Option.bind_eq_some_iff, Option.map_eq_some_iff] at h
    obtain ⟨c, hi, k, hk, hb⟩ := h
    cases hkd : k.kind with
    | array comp2 ty =>
      rw [hkd] at hb
      simp only [Bool.and_eq_true, decide_eq_true_eq] at hb
      obtain ⟨rfl, hf⟩ := hb
      exact ⟨c, fun n z => ⟨fun k h => (by cases h), k, hk, comp2, hkd⟩, hf⟩
    | primitive l => rw [hkd] at hb; cases hb
    | ordinary => rw [hkd] at hb; cases hb
theorem st_G (ht : st_ts s b) : ∃ arr : Nat → ClassId, ∀ t, t < 11 → ArrOfT s (arr t) (fw_arr t) ∧ va_RA s (arr t) (fw_arr t) := by
  have h : ∀ t, ∃ cA, t < 11 → ArrOfT s cA (fw_arr t) ∧ va_RA s cA (fw_arr t) := by
    intro t
    match t with
    | 0 => obtain ⟨c, h⟩ := st_arrP (ty := .int) (fun _ h => by cases h) (ht _ (lw_all_tbl q207)); exact ⟨c, fun _ => h⟩
    | 1 => obtain ⟨c, h⟩ := st_arrP (ty := .byte) (fun _ h => by cases h) (ht _ (lw_all_tbl q166)); exact ⟨c, fun _ => h⟩
    | 2 => obtain ⟨c, h⟩ := st_arrP (ty := .short) (fun _ h => by cases h) (ht _ (lw_all_tbl q1086)); exact ⟨c, fun _ => h⟩
    | 3 => obtain ⟨c, h⟩ := st_arrP (ty := .boolean) (fun _ h => by cases h) (ht _ (lw_all_tbl q1335)); exact ⟨c, fun _ => h⟩
    | 4 => obtain ⟨c, h⟩ := st_arrP (ty := .boolean) (fun _ h => by cases h) (ht _ (lw_all_tbl q1335)); exact ⟨c, fun _ => h⟩
    | 5 => obtain ⟨c, h⟩ := st_arrO (C := "java/lang/Object") (ht _ (by decide +kernel)); exact ⟨c, fun _ => h⟩
    | 6 => obtain ⟨c, h⟩ := st_arrO (C := "TugOfWar$Team") (ht _ (by decide +kernel)); exact ⟨c, fun _ => h⟩
    | 7 => obtain ⟨c, h⟩ := st_arrO (C := "TugOfWar$Captain") (ht _ (by decide +kernel)); exact ⟨c, fun _ => h⟩
    | 8 => obtain ⟨c, h⟩ := st_arrO (C := "TugOfWar$Text") (ht _ (by decide +kernel)); exact ⟨c, fun _ => h⟩
    | 9 => obtain ⟨c, h⟩ := st_arrO (C := "TugOfWar$Sheet") (ht _ (by decide +kernel)); exact ⟨c, fun _ => h⟩
    | 10 => obtain ⟨c, h⟩ := st_arrI (ht _ (by decide +kernel)); exact ⟨c, fun _ => h⟩
    | n + 11 => exact ⟨0, fun h => by omega⟩
  exact ⟨fun t => (h t).choose, fun t ht => (h t).choose_spec ht⟩
theorem st_K (ht : st_ts s b) : ∃ (D : va_G) (arr : Nat → ClassId), ∀ ro : Nat → Nat, va_K D fw_cls (fw_tys (D, arr, ro)) s := by
  obtain ⟨D, hD⟩ := st_D ht
  obtain ⟨arr, hA⟩ := st_G ht
  refine ⟨D, arr, fun ro => ⟨hD, fun k q hk => ?_⟩⟩
  have hl : k < 11 := by
    have := (List.getElem?_eq_some_iff.mp hk).1
    simpa [fw_tys] using this
  have e := fw_tysAt (G := (D, arr, ro)) hl
  rw [e] at hk
  cases hk
  exact hA k hl
/-- a private method of a class above is found from a class below -/
theorem st_sel {C : String} {n : Nat} {x y z : MethodName} (hy : y.cls ≠ "java/lang/invoke/MethodHandle" ∧ y.cls ≠ "java/lang/invoke/VarHandle") (hC : (Cond.instantiable C n).before #[Value.ref b] s = true) (hpriv : (Cond.privateMethod y).before #[Value.ref b] s = true) (hinst : (Cond.instanceMethod y).before #[Value.ref b] s = true) (hz : z.cls = y.cls) (hsel : (Cond.selects C x z).before #[Value.ref b] s = true) : va_Nw (.selects C y y) s := by
  obtain ⟨c, k, hc, hk, -, -, -, -⟩ := Cond.instantiable_spec hC
  obtain ⟨mk, methM, hnamed, hmethM, -, -⟩ := Cond.instanceMethod_spec hinst
  obtain ⟨c2, r2, m2, q1, q2, q3, q4, kP, hkP, hkPi⟩ := Cond.selects_spec hsel
  have hfound : s.methodFound? y.cls y.name y.desc = some mk := State.methodFound?_of_named hnamed hy
  have hcls : m2.cls = mk.cls := by
    have h1 := findClass_of_methodNamed q3
    have h2 := findClass_of_methodNamed hnamed
    rw [hz] at h1
    exact Option.some.inj (h1.symm.trans h2)
  rw [hcls] at hkP
  have hs2 : selectMethod {} s.vm c mk = .method mk := selectMethod_private hmethM (Cond.privateMethod_at hpriv mk methM hnamed hmethM)
  refine va_Nw.of (A := #[Value.ref b]) rfl ?_
  simp only [Cond.before, Cond.holds, Cond.value, hc, hfound, hnamed, hs2, hkP]
  simp; exact hkPi
theorem st_ref {s : State} {b : Nat} {t : Term} (h : (Cond.isRef t).before #[Value.ref b] s = true) : t.eval #[Value.ref b] s none [] s = some .null ∨ ∃ a, t.eval #[Value.ref b] s none [] s = some (.ref a) := by
  cases hv : t.eval #[Value.ref b] s none [] s with
  | none => simp [Cond.before, Cond.holds, Cond.value, hv] at h
  | some w =>
    simp only [Cond.before, Cond.holds, Cond.value, hv] at h
    cases w with
    | null => exact Or.inl rfl
    | ref a => exact Or.inr ⟨a, rfl⟩
    | _ => simp [Value.isRef] at h
/-- a static that holds a reference or null -/
theorem st_Zb {s : State} {b : Nat} {C n d : String} (hl : (Cond.laysStatic C n d).before #[Value.ref b] s = true) (hini : (Cond.initialized C).before #[Value.ref b] s = true) (h : (Cond.isRef (.static C n d)).before #[Value.ref b] s = true) : ∃ (bb : Bool) (a : Nat), fw_zb bb C n d a (st_A s) s s.heap := by
  rcases st_ref h with h | ⟨a, h⟩
  · exact ⟨true, 0, va_Zof hl hini h st_nA⟩
  · exact ⟨false, a, va_Zof hl hini h st_nA⟩
theorem st_Zr {s : State} {C n d : String} {bb : Bool} {a : Nat} (h : fw_zb bb C n d a (st_A s) s s.heap) : fw_Zr C n d a (st_A s) s s.heap := by
  cases bb
  · exact Or.inr h
  · exact Or.inl h
def st_tm : Nat → Term
  | 0 => .string "TugOfWar$Team" 40
  | 1 => .string "TugOfWar$Team" 42
  | 2 => .string "TugOfWar$Team" 30
  | _ => .string "TugOfWar$Captain" 29
def st_ro (a0 a1 a2 a3 a4 : Nat) (k v : Nat → Nat) (u w : Nat) (i : Nat) : Nat := match i with
  | 0 => a0 | 1 => a1 | 2 => a2 | 3 => a3 | 4 => a4 | 5 => k 0 | 6 => k 1 | 7 => k 2 | 8 => k 3 | 9 => v 0 | 10 => v 1 | 11 => v 2 | 12 => v 3 | 13 => u | _ => w
theorem st_str {s : State} {b : Nat} (hn : st_nr s b) : ∃ k v : Nat → Nat, vk_S 4 fw_sl fw_sb k v (st_A s) s s.heap ∧ ∀ i : Nat, i < 4 → (st_tm i).eval #[Value.ref b] s none [] s = some (.ref (k i)) := by
  have c4 : ∀ {P : Nat → Prop}, P 0 → P 1 → P 2 → P 3 → ∀ i, i < 4 → P i := fun h0 h1 h2 h3 i hi => by
    match i with
    | 0 => exact h0
    | 1 => exact h1
    | 2 => exact h2
    | 3 => exact h3
    | n + 4 => omega
  refine vk_Sof (tm := st_tm) (c4 (by decide) (by decide) (by decide) (by decide)) ?_ ?_ ?_ ?_ ?_ ?_ st_nA
  · exact c4 (hn _ (by decide +kernel)) (hn _ (by decide +kernel)) (hn _ (by decide +kernel)) (hn _ (by decide +kernel))
  · exact c4 (hn _ (by decide +kernel)) (hn _ (by decide +kernel)) (hn _ (by decide +kernel)) (hn _ (by decide +kernel))
  · exact c4 (hn _ (by decide +kernel)) (hn _ (by decide +kernel)) (hn _ (by decide +kernel)) (hn _ (by decide +kernel))
  · exact c4 (hn _ (by decide +kernel)) (hn _ (by decide +kernel)) (hn _ (by decide +kernel)) (hn _ (by decide +kernel))
  · refine c4 ?_ ?_ ?_ ?_
    · intro j hj
      have hj : j < 3 := hj
      rcases (show j = 0 ∨ j = 1 ∨ j = 2 by omega) with e | e | e <;> subst e <;> exact hn _ (by decide +kernel)
    · intro j hj
      have hj : j < 9 := hj
      rcases (show j = 0 ∨ j = 1 ∨ j = 2 ∨ j = 3 ∨ j = 4 ∨ j = 5 ∨ j = 6 ∨ j = 7 ∨ j = 8 by omega) with e | e | e | e | e | e | e | e | e <;> subst e <;> exact hn _ (by decide +kernel)
    · intro j hj
      have hj : j < 1 := hj
      rcases (show j = 0 by omega) with e; subst e; exact hn _ (by decide +kernel)
    · intro j hj
      have hj : j < 3 := hj
      rcases (show j = 0 ∨ j = 1 ∨ j = 2 by omega) with e | e | e <;> subst e <;> exact hn _ (by decide +kernel)
  · intro i j hi hj hij
    rcases (show i = 0 ∨ i = 1 ∨ i = 2 ∨ i = 3 by omega) with e | e | e | e <;> rcases (show j = 0 ∨ j = 1 ∨ j = 2 ∨ j = 3 by omega) with e' | e' | e' | e' <;> subst e <;> subst e' <;> first | exact (hij rfl).elim | exact Or.inl (hn _ (by decide +kernel)) | exact Or.inr (hn _ (by decide +kernel))
theorem st_vkS {s : State} {k v : Nat → Nat} {a0 a1 a2 a3 a4 u w : Nat} (h : vk_S 4 fw_sl fw_sb k v (st_A s) s s.heap) : vk_S 4 fw_sl fw_sb (fun i => st_ro a0 a1 a2 a3 a4 k v u w (5 + i)) (fun i => st_ro a0 a1 a2 a3 a4 k v u w (9 + i)) (st_A s) s s.heap := by
  refine ⟨fun i hi => ?_, fun i j hi hj e => ?_⟩
  · have h1 := h.1 i hi
    rcases (show i = 0 ∨ i = 1 ∨ i = 2 ∨ i = 3 by omega) with e | e | e | e <;> subst e <;> exact h1
  · have h2 := h.2 i j hi hj
    rcases (show i = 0 ∨ i = 1 ∨ i = 2 ∨ i = 3 by omega) with e1 | e1 | e1 | e1 <;> rcases (show j = 0 ∨ j = 1 ∨ j = 2 ∨ j = 3 by omega) with e2 | e2 | e2 | e2 <;> subst e1 <;> subst e2 <;> exact h2 e
theorem st_all {s : State} {b : Nat} (ht : st_ts s b) (hn : st_nr s b) {ws : List Cond} (h : ws.all (fun w => w.onTables && (decide (w ∈ lw_tbl) || decide (w ∈ flatC (Jvm.Cond.and given_1 narrow_1)))) = true) : ∀ w ∈ ws, va_Nw w s := fun w hw => by
  have := List.all_eq_true.mp h w hw
  simp only [Bool.and_eq_true, Bool.or_eq_true, decide_eq_true_eq] at this
  rcases this.2 with h2 | h2
  · exact va_Nw.of this.1 (ht w h2)
  · exact va_Nw.of this.1 (hn w h2)
theorem st_zn {s : State} {b : Nat} (hn : st_nr s b) : ∀ q ∈ fw_zn, va_Nc q.1 q.2 s := fun q hq => by
  have h : fw_zn.all (fun q => decide (Cond.not (.castable q.1 q.2) ∈ flatC (Jvm.Cond.and given_1 narrow_1))) = true := by decide +kernel
  exact va_Nc.of (hn _ (of_decide_eq_true (List.all_eq_true.mp h q hq)))
theorem st_zs {s : State} {b : Nat} (ht : st_ts s b) : ∀ q ∈ fw_zs, va_Nw (.selects q.1 q.2 q.2) s := fun q hq => by
  simp only [fw_zs, List.mem_cons, List.not_mem_nil, or_false] at hq
  rcases hq with rfl | rfl | rfl | rfl
  · exact st_sel (x := ⟨"TugOfWar$Text", "type", "(I)I"⟩) (z := ⟨"TugOfWar$Text", "type", "(I)I"⟩) (n := 6) (by decide) (ht _ (lw_all_tbl q132)) (ht _ (by decide +kernel)) (ht _ (by decide +kernel)) rfl (ht _ (lw_all_tbl q318))
  · exact st_sel (x := ⟨"TugOfWar$Text", "type", "(I)I"⟩) (z := ⟨"TugOfWar$Text", "type", "(I)I"⟩) (n := 7) (by decide) (ht _ (lw_all_tbl q189)) (ht _ (by decide +kernel)) (ht _ (by decide +kernel)) rfl (ht _ (lw_all_tbl q317))
  · exact st_sel (x := ⟨"TugOfWar$Text", "type", "(I)I"⟩) (z := ⟨"TugOfWar$Text", "type", "(I)I"⟩) (n := 6) (by decide) (ht _ (lw_all_tbl q132)) (ht _ (by decide +kernel)) (ht _ (by decide +kernel)) rfl (ht _ (lw_all_tbl q318))
  · exact st_sel (x := ⟨"TugOfWar$Text", "type", "(I)I"⟩) (z := ⟨"TugOfWar$Text", "type", "(I)I"⟩) (n := 7) (by decide) (ht _ (lw_all_tbl q189)) (ht _ (by decide +kernel)) (ht _ (by decide +kernel)) rfl (ht _ (lw_all_tbl q317))
theorem st_ZX {s : State} {b : Nat} (ht : st_ts s b) (hn : st_nr s b) : ∃ (b1 b2 : Bool) (ro : Nat → Nat), fw_ZX b1 b2 ro (st_A s) s s.heap := by
  obtain ⟨b1, u, hu⟩ := st_Zb (C := "java/lang/Throwable") (n := "UNASSIGNED_STACK") (d := "[Ljava/lang/StackTraceElement;") (ht _ (by decide +kernel)) (ht _ (lw_all_tbl q104)) (hn _ (by decide +kernel))
  obtain ⟨b2, w, hw⟩ := st_Zb (C := "java/lang/Throwable") (n := "SUPPRESSED_SENTINEL") (d := "Ljava/util/List;") (ht _ (by decide +kernel)) (ht _ (lw_all_tbl q104)) (hn _ (by decide +kernel))
  obtain ⟨k, v, hS, hSe⟩ := st_str hn
  have hx0 : (Cond.exactly (.elem (.static "TugOfWar" "SORT" "[LTugOfWar$Sort;") (.int 0)) "TugOfWar$Sort").before #[Value.ref b] s = true := hn _ (by decide +kernel)
  have hx1 : (Cond.exactly (.elem (.static "TugOfWar" "SORT" "[LTugOfWar$Sort;") (.int 1)) "TugOfWar$Limber").before #[Value.ref b] s = true := hn _ (by decide +kernel)
  have hx2 : (Cond.exactly (.elem (.static "TugOfWar" "SORT" "[LTugOfWar$Sort;") (.int 2)) "TugOfWar$Anchor").before #[Value.ref b] s = true := hn _ (by decide +kernel)
  obtain ⟨o1, -, -, -, he1, -⟩ := Cond.exactly_spec (args := #[Value.ref b]) (first := s) (o := none) (s := s) (idx := []) hx0
  obtain ⟨o2, -, -, -, he2, -⟩ := Cond.exactly_spec (args := #[Value.ref b]) (first := s) (o := none) (s := s) (idx := []) hx1
  obtain ⟨o3, -, -, -, he3, -⟩ := Cond.exactly_spec (args := #[Value.ref b]) (first := s) (o := none) (s := s) (idx := []) hx2
  obtain ⟨a4, h4e, h4⟩ := va_Tof (tm := .static "java/util/ArrayList" "DEFAULTCAPACITY_EMPTY_ELEMENTDATA" "[Ljava/lang/Object;") (ty := .object "java/lang/Object") (N := 0) (f := fun _ => .null) (A := st_A s) (by decide) (hn _ (by decide +kernel)) (va_eqt (hn _ (by decide +kernel))) (fun j hj => absurd hj (Nat.not_lt_zero _)) st_nA
  have hT : ∀ a0 : Nat, ∃ t : Nat, (Term.static "TugOfWar" "SORT" "[LTugOfWar$Sort;").eval #[Value.ref b] s none [] s = some (.ref t) ∧ va_T (.object "TugOfWar$Sort") t 3 (fun j => .ref (st_ro a0 o1 o2 o3 a4 k v u w (1 + j))) (st_A s) s s.heap := fun a0 =>
    va_Tof (by decide) (hn _ (by decide +kernel)) (va_eqt (hn _ (by decide +kernel))) (fun j hj => by
      rcases (show j = 0 ∨ j = 1 ∨ j = 2 by omega) with e | e | e <;> subst e
      · exact he1
      · exact he2
      · exact he3) st_nA
  obtain ⟨a0, h0e, -⟩ := hT 0
  obtain ⟨a0', h0e', h0⟩ := hT a0
  have e0 : a0' = a0 := by
    have := h0e'.symm.trans h0e
    injection this with this
    injection this
  rw [e0] at h0
  refine ⟨b1, b2, st_ro a0 o1 o2 o3 a4 k v u w, ⟨⟨va_Zof (ht _ (by decide +kernel)) (ht _ (lw_all_tbl q94)) h0e st_nA, h0, va_Oof hx0 he1 st_nA, va_Oof hx1 he2 st_nA, va_Oof hx2 he3 st_nA⟩, ⟨va_Zof (ht _ (by decide +kernel)) (ht _ (lw_all_tbl q99)) h4e st_nA, h4⟩, ⟨st_vkS hS, va_Zof (ht _ (by decide +kernel)) (ht _ (lw_all_tbl q107)) (va_eqi (hn _ (by decide +kernel))) st_nA⟩, ⟨vx_Zqof (ht _ (by decide +kernel)) (ht _ (lw_all_tbl q104)) (hn _ (by decide +kernel)) st_nA, vx_Zqof (ht _ (by decide +kernel)) (ht _ (lw_all_tbl q104)) (hn _ (by decide +kernel)) st_nA, st_Zr hu, st_Zr hw⟩,
    ⟨vk_R.of (ht _ (by decide +kernel)) (hSe 0 (by decide)), vk_R.of (ht _ (by decide +kernel)) (hSe 1 (by decide)), vk_R.of (ht _ (by decide +kernel)) (hSe 2 (by decide)), vk_R.of (ht _ (by decide +kernel)) (hSe 3 (by decide))⟩,
    st_all ht hn (by decide +kernel), st_all ht hn (by decide +kernel), fun q hq => ?_, fun x hx => ?_, fun ty hy => ?_, st_zn hn, st_zs ht⟩, hu, hw⟩
  · exact st_all ht hn (ws := fw_zc.map (fun q => .castable q.1 q.2)) (by decide +kernel) _ (List.mem_map.mpr ⟨q, hq, rfl⟩)
  · exact st_all ht hn (ws := fw_zd.map (fun q => .declares q)) (by decide +kernel) _ (List.mem_map.mpr ⟨x, hx, rfl⟩)
  · have h9 : fw_za.all (fun ty => decide (Cond.arrayOver ty ∈ lw_tbl)) = true := by decide +kernel
    exact ht _ (of_decide_eq_true (List.all_eq_true.mp h9 ty hy))
theorem st_whole {RR : Nat → LH → LH → Prop} (h0 : ∀ k, lw_R0 (RR k)) (hI : PI RR) (hP : PL RR) {p : Program} {e : Env} {s : State} {m : MethodId} {below : List Frame} {meth : Method} {c : Code} (l : Launch) (hflags : l.flags = flags0) {b L : Nat} {xs : Nat → Int32} (hL : L ≤ 384) (C0 : lw_At p s m meth c b L xs) : W p l e room_1 s m #[Value.ref b] below meth c s.heap [] 0 0 (lw_Z below #[Value.ref b] s) (entryFrame m ([Value.ref b] : List Value).toArray 4) := by
  obtain ⟨hx, hc, hr, hml, hown, hts, hX, hbl, hlk, hgv, -⟩ := C0
  have hn : st_nr s b := flat_of_before _ hgv
  obtain ⟨D, arr, hK⟩ := st_K hts
  obtain ⟨b1, b2, ro, hZ⟩ := st_ZX hts hn
  have hOk : Ok (p, l, e, room_1, s, m, #[Value.ref b], below, meth, c, lw_Z below #[Value.ref b] s, st_A s, (D, arr, ro), (fun j => ro (j - fw_RO)), 0, fw_ZX b1 b2) cL_law 4 "TugOfWarLaw" 8192 104096 :=
    ⟨hx, hc, hml, hown, fun w hw => hts w (lw_all_tbl hw), hlk, fun q h => h, hK ro, rfl, rfl, fw_ZX_ok, hZ, fun i => by show ro (fw_RO + i - fw_RO) = ro i; rw [Nat.add_sub_cancel_left], hflags⟩
  have hB : lw_B (p, l, e, room_1, s, m, #[Value.ref b], below, meth, c, lw_Z below #[Value.ref b] s, st_A s, (D, arr, ro), (fun j => ro (j - fw_RO)), 0, fw_ZX b1 b2) b L xs := ⟨hX, hbl, hL, fun q h => h, rfl, rfl, rfl⟩
  have hE : lw_E (p, l, e, room_1, s, m, #[Value.ref b], below, meth, c, lw_Z below #[Value.ref b] s, st_A s, (D, arr, ro), (fun j => ro (j - fw_RO)), 0, fw_ZX b1 b2) := fun H ls c0 s0 h1 h2 T hT X => lw_ret hx hc hr hlk dL_law_1276 T hT (stand_widen X h1 h2)
  have key := lw_entry hOk ⟨b1, b2, rfl⟩ hB hE h0 hI hP ⟨by decide, by decide⟩
  have hw0 : fw_wst (p, l, e, room_1, s, m, #[Value.ref b], below, meth, c, lw_Z below #[Value.ref b] s, st_A s, (D, arr, ro), (fun j => ro (j - fw_RO)), 0, fw_ZX b1 b2) lh_0 (fun j => ro (j - fw_RO)) s.heap [] :=
    ⟨fun k q hk => absurd (fw_in hk).1 (Nat.not_lt_zero _), ⟨fun i j p q hi hj _ => absurd (fw_in hi).1 (Nat.not_lt_zero _), fun k q hk => absurd (fw_in hk).1 (Nat.not_lt_zero _)⟩, va_S.rf, fun _ _ => rfl, Nat.le_refl _, lh_0_wf⟩
  have hl := lv_entry ([Value.ref b]) (n := 4) (Nat.le_of_ble_eq_true rfl)
  rw [lg_entry_eq]
  exact key (fun j => ro (j - fw_RO)) (fun j => ro (j - fw_RO)) s.heap _ ⟨hw0, hw0, fun i j hi hj => absurd hi (Nat.not_lt_zero _)⟩ hl
end Start
