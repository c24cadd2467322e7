set_option maxRecDepth 100000
set_option maxHeartbeats 1000000 in
theorem fw_vmAtN {p : Program} {l : Launch} {e : Env} {R : Room} {s : State} {m₀ : MethodId} {args : Array Value} {below : List Frame} {meth : Method} {c : Code} {W : State} {locs : List Loc} {cells slots : Nat}
    (X : Stand p l e R s m₀ args below meth c W locs cells slots) (hexec : p.tables.exec = Jvm.exec) (htr : e.platform.stackTraces = false) {cls : String} {names : List String} {text : String}
    (hcls : Bundle.fit cls = true) (hnames : ∀ n ∈ names, Bundle.fit n = true) (hsoe : (cls == "java/lang/StackOverflowError") = false) (hoom : (cls == "java/lang/OutOfMemoryError") = false)
    (h : ∀ a ∈ Bundle.messageArmAtoms cls names, a.before args s = true)
    (hlocs : ∀ x ∈ locs, ∀ cell, s.heap[x.base]? = some cell → cell.vm.isStatics = false)
    (htext : (text == notModelled) = false) (hlimit : ¬ (stringBytes (stringToUtf16 text)).size > e.platform.arrayLengthLimit) (hheap : ¬ (stringBytes (stringToUtf16 text)).size * componentBytes .byte > e.platform.maxHeapBytes)
    {g : JFrame} (hg : g.method = m₀) (hsize : g.locals.size = c.maxLocals) {nf : NFrame} (hnf : nf.words = 0) (haw : nf.awaiting = false) (hlk : nf.locked = none)
    (hRframes : names.length + 5 < R.frames) (hRlocals : 2 * g.monitorRoom + (g.stack.map fun v => v.category).sum + 10240 ≤ R.locals) (hshort : 13 * names.length + 55 ≤ 10240)
    (hRcells : cells + 3 ≤ R.cells) (hRslots : slots + ((stringBytes (stringToUtf16 text)).size + 4 + 6) ≤ R.slots) (hlocks : meth.locks = false) :
    ∃ (S : State) (q : Addr) (ce : Cell), (∀ target, Steps p.tables e below ((S.setTop g).pushFrame (.throwing q)) target → Steps p.tables e below (W.setFrames (.throwNew cls (some text) none :: .native nf :: .java g :: below)) target) ∧
      Stand p l e R s m₀ args below meth c S locs (cells + 3) (slots + ((stringBytes (stringToUtf16 text)).size + 4 + 6)) ∧ S.heap[q]? = some ce ∧ s.vm.findClass cls = some ce.cls ∧ ce.vm = .none := by
  have howns : e.platform.frameOwnsMonitors = true := by rw [X.admits.platform]
  have hfin : e.platform.finalization = false := by rw [X.admits.platform]
  have hpl : e.platform.magicAccessors = ({} : Platform).magicAccessors := by rw [X.admits.platform]
  have a : ∀ x, x ∈ Bundle.messageArmAtoms cls names → x.holds args s none s [] = true := fun x hx => h x hx
  obtain ⟨T, Z0, L, -, Y⟩ := ThrowableC.of_atoms (args := args) howns hfin hpl (fun x hx => h x (by simp [Bundle.messageArmAtoms, hx]))
  obtain ⟨Z, M, LZ, LM, hnZ⟩ := Init0T.ofS_atoms (args := args) hpl L Y (fun x hx => h x (by simp [Bundle.messageArmAtoms, hx]))
  obtain ⟨P1, Ps, hlen, L1, hL, hP1m, hlink1, hlink⟩ := Bundle.chainS (args := args) hpl hnZ names cls hcls hnames (fun x hx => h x (by simp [Bundle.messageArmAtoms, hx]))
  obtain ⟨Zs, LZs, hn4, hfitv, hfitc⟩ := StringT.of_atoms (args := args) (fun x hx => h x (by simp [Bundle.messageArmAtoms, hx]))
  have hfound : s.vm.findClass cls = some P1.m.cls := findClass_of_methodNamed hP1m
  obtain ⟨c1, kX, hc1, hk, hord, -, -, hn6⟩ := Cond.instantiable_spec (a (.instantiable cls 6) (by simp [Bundle.messageArmAtoms]))
  cases Option.some.inj (hc1.symm.trans hfound)
  have hinit := Cond.initialized_spec hfound hk (a (.initialized cls) (by simp [Bundle.messageArmAtoms]))
  have hctor : kX.findMethod "<init>" "(Ljava/lang/String;)V" = some P1.m.idx := findMethod_of_methodNamed hP1m hk
  have hsel0 : selectMethod e.platform s.vm P1.m.cls T.fill0 = .method T.fill0 := by
    obtain ⟨c2, r2, m2, q1, q2, q3, q4, -⟩ := Cond.selects_spec (a (.selects cls Bundle.tFill0 Bundle.tFill0) (by simp [Bundle.messageArmAtoms]))
    cases Option.some.inj (q1.symm.trans hfound)
    cases Option.some.inj (q2.symm.trans (State.methodFound?_of_named Y.fill0 (by decide)))
    cases Option.some.inj (q3.symm.trans Y.fill0)
    rw [Launch.admits_selectMethod X.admits]; exact q4
  have hselF : selectMethod e.platform s.vm P1.m.cls T.fill = .method T.fill := by
    obtain ⟨c2, r2, m2, q1, q2, q3, q4, -⟩ := Cond.selects_spec (a (.selects cls Bundle.tFill Bundle.tFill) (by simp [Bundle.messageArmAtoms]))
    cases Option.some.inj (q1.symm.trans hfound)
    cases Option.some.inj (q2.symm.trans (State.methodFound?_of_named Y.fill (by decide)))
    cases Option.some.inj (q3.symm.trans Y.fill)
    rw [Launch.admits_selectMethod X.admits]; exact q4
  obtain ⟨cellS0, hcS0, hiss⟩ := Y.statics
  obtain ⟨u0, hu0⟩ := Cond.staticRefV Y.unassigned L.unassignedStatic L.statics hcS0 hiss (a (.isRef (.static Bundle.tN "UNASSIGNED_STACK" Bundle.steD)) (by simp [Bundle.messageArmAtoms]))
  obtain ⟨sen, hsen⟩ := Cond.staticRefV Y.sentinel L.sentinelStatic L.statics hcS0 hiss (a (.isRef (.static Bundle.tN "SUPPRESSED_SENTINEL" Bundle.listD)) (by simp [Bundle.messageArmAtoms]))
  obtain ⟨ci198, i198, fB, hk198, hg198, ha198, hsB, -, hnB, htB, hffB⟩ := Cond.ownField (t := .object "java/lang/Object") Y.found L.cls (by decide +kernel) (a (.fieldLink Bundle.tN 198 Bundle.tN "backtrace" "Ljava/lang/Object;") (by simp [Bundle.messageArmAtoms])) (a (.lays Bundle.tN Bundle.tN "backtrace" "Ljava/lang/Object;") (by simp [Bundle.messageArmAtoms])) e.platform hpl
  obtain ⟨cellS, hcS', heS, -, hkeep⟩ := X.same.2.2.2.2.2 T.aS cellS0 hcS0
  have hcellS : W.heap[T.aS]? = some cellS := hcS'
  have hout' : ∀ i, (⟨T.aS, i⟩ : Loc) ∉ locs := fun i hmem => by
    have := hlocs _ hmem cellS0 hcS0
    rw [hiss] at this; cases this
  have hknownS : cellS.vm ≠ .unknown := by
    rw [heS]; intro hu
    rw [show cellS0.vm = .unknown from hu] at hiss
    cases hiss
  have hvU : cellS.slots[T.fUnassigned.slot]? = some u0.v := by rw [hkeep _ (hout' _)]; exact hu0
  have hvSen : cellS.slots[T.fSentinel.slot]? = some sen.v := by rw [hkeep _ (hout' _)]; exact hsen
  obtain ⟨iM, hffM⟩ := Y.msg
  obtain ⟨tyC, dC, hdC, hdnC⟩ := Cond.laysAt hfound hk Y.cause (a (.lays cls Bundle.tN "cause" "Ljava/lang/Throwable;") (by simp [Bundle.messageArmAtoms]))
  obtain ⟨tyS, dS, hdS, hdnS⟩ := Cond.laysAt hfound hk Y.stack (a (.lays cls Bundle.tN "stackTrace" Bundle.steD) (by simp [Bundle.messageArmAtoms]))
  obtain ⟨tyP, dP, hdP, hdnP⟩ := Cond.laysAt hfound hk Y.supp (a (.lays cls Bundle.tN "suppressedExceptions" Bundle.listD) (by simp [Bundle.messageArmAtoms]))
  obtain ⟨tyM, dM, hdM, hdnM⟩ := Cond.laysAt hfound hk hffM (a (.lays cls Bundle.tN "detailMessage" "Ljava/lang/String;") (by simp [Bundle.messageArmAtoms]))
  obtain ⟨tyB, dB, hdB, hdnB⟩ := Cond.laysAt hfound hk hffB (a (.lays cls Bundle.tN "backtrace" "Ljava/lang/Object;") (by simp [Bundle.messageArmAtoms]))
  have bC := Cond.laysApart hdB hdC hdnB hdnC (by rw [hnB, Y.causeName]; decide)
  have bS := Cond.laysApart hdB hdS hdnB hdnS (by rw [hnB, Y.stackName]; decide)
  have bP := Cond.laysApart hdB hdP hdnB hdnP (by rw [hnB, Y.suppName]; decide)
  have hbk : ((preparedCellV T.toThrowableT (freshCell P1.m.cls kX) (W.heap.size + 2) u0 sen).withEntry W.cur).slots[fB.slot]? = some .null := by
    have := fresh_default (c := P1.m.cls) tyB
    rw [htB] at this
    simpa [preparedCellV, Cell.setSlot, Cell.withEntry, Array.getElem?_setIfInBounds, bC, bS, bP, bC.symm, bS.symm, bP.symm, defaultValue] using this
  have tkC := Takes.of_laid (v := .ref (W.heap.size + 2)) hk hord tyC (by rw [Y.causeType]; rfl)
  have tkS := Takes.of_laid (v := u0.v) hk hord tyS (by rw [Y.stackType]; exact fits_refV_array _ u0)
  have tkP := Takes.of_laid (v := sen.v) hk hord tyP (by rw [Y.suppType]; exact fits_refV_object _ sen)
  have tkM := Takes.of_laid (v := .ref (W.heap.size + 1)) hk hord tyM (by rw [Y.msgType]; rfl)
  have hskip : SkipFacts T e.platform s (fun u => u) u0 ((preparedCellV T.toThrowableT (freshCell P1.m.cls kX) (W.heap.size + 2) u0 sen).withEntry W.cur) := ⟨{ ci198 := ci198, i198 := i198, fBack := fB }, ⟨hk198, hg198, ha198, hsB⟩, hbk, fun _ _ => rfl⟩
  obtain ⟨vm', X5, st, -⟩ := X.nativeThrowsMessageColdBareV hexec (g := g) hsize (nf := nf) hnf T L Z LZ M LM Zs LZs P1 L1 Ps hL hlink1 hlink hsoe hoom hfound hk hinit hord hctor htext hlimit hheap (hfitv _) (hfitc _) hsel0 hselF hcellS hknownS hvU hvSen tkC tkS tkP tkM Y.objLocals hskip (fun _ u hA hW _ hroom _ hrest => L.nativeOff p htr hA hW hroom hrest) (by omega) hRlocals (by omega) hRcells (by rw [hn4, hn6]; omega)
  obtain ⟨-, -, w3, w4, -, -, -⟩ := withThrown_facts e.platform W Zs text P1.m.cls kX
  have ha : (W.heap.size + 2) < ((withThrown W Zs text P1.m.cls kX).setVm vm').heap.size := by show _ < (withThrown W Zs text P1.m.cls kX).heap.size; rw [w3]; omega
  obtain ⟨g₁, hfrM⟩ := X5.frames_eq
  have hU : ((((withThrown W Zs text P1.m.cls kX).setVm vm').setCell (W.heap.size + 2) (plainBareV T.toThrowableT (freshCell P1.m.cls kX) (W.heap.size + 2) u0 sen (.ref (W.heap.size + 1)))).setTop g).pushFrame (.throwing (W.heap.size + 2)) = (((withThrown W Zs text P1.m.cls kX).setVm vm').setCell (W.heap.size + 2) (plainBareV T.toThrowableT (freshCell P1.m.cls kX) (W.heap.size + 2) u0 sen (.ref (W.heap.size + 1)))).setFrames (.throwing (W.heap.size + 2) :: .java g :: below) := by
    rw [State.pushFrame, State.frames_setTop _ hfrM, State.setTop_of_frames _ hfrM, State.setFrames_setFrames]
  have b1 : (bytesOf Zs.cB (stringToUtf16 text)).slots.size = (stringBytes (stringToUtf16 text)).size := by
    rw [(Cell.writeAll_facts _ _).2.2]; simp [bytes0]
  have b2 : (stringAt Zs.cS Zs.kS Zs.fv Zs.fc (stringToUtf16 text) W.heap.size).slots.size = 4 := by simp [string0, Cell.setSlot, hn4]
  have b3 : (freshCell P1.m.cls kX).slots.size = 6 := by simp [hn6]
  rw [b1, b2, b3] at X5
  have e9 : slots + (stringBytes (stringToUtf16 text)).size + 4 + 6 = slots + ((stringBytes (stringToUtf16 text)).size + 4 + 6) := by omega
  rw [e9] at X5
  refine ⟨((withThrown W Zs text P1.m.cls kX).setVm vm').setCell (W.heap.size + 2) (plainBareV T.toThrowableT (freshCell P1.m.cls kX) (W.heap.size + 2) u0 sen (.ref (W.heap.size + 1))), W.heap.size + 2, _, fun target ht => st.trans (Steps.throwingLeavesNative ⟨X5.here.running, X5.here.runnable, X5.here.alone⟩ (State.cur_lt_of_frames hfrM) ⟨[.java g], rfl⟩ haw hlk (by rw [← hU]; exact ht)),
    X5.forget (fun y hy => ?_), heapAt_setCell_self _ ha, hfound, rfl⟩
  simp only [List.mem_cons, List.not_mem_nil, or_false] at hy
  have hge : s.heap.size ≤ W.heap.size := X.same.2.1
  rcases hy with rfl | rfl | rfl | rfl | rfl <;> exact Nat.le_trans hge (Nat.le_add_right _ 2)
section NVM
variable {p : Program} {l : Launch} {e : Env} {R : Room} {s : State} {m : MethodId} {args : Array Value} {below : List Frame} {meth : Method} {c : Code} {H : Heap} {locs : List Loc} {cells slots : Nat}
theorem fw_vmN {pc : Nat} {ls : Array Slot} {rest : List Value} {Q : State → Prop} (hexec : p.tables.exec = Jvm.exec) (hl : l.stackTraces = false) {cls text : String} {names : List String} {nb : Nat} {A : Nat → Prop}
    (hcls : Bundle.fit cls = true) (hnames : ∀ n ∈ names, Bundle.fit n = true) (hsoe : (cls == "java/lang/StackOverflowError") = false) (hoom : (cls == "java/lang/OutOfMemoryError") = false)
    (hat : ∀ w ∈ vx_atM cls names, w.before args s = true) (hgood : ∀ w ∈ vx_atM cls names, vx_ot w = true)
    (hU : vx_Zq Bundle.tN "UNASSIGNED_STACK" Bundle.steD A s s.heap) (hN : vx_Zq Bundle.tN "SUPPRESSED_SENTINEL" Bundle.listD A s s.heap) (hS : va_S A s.heap H locs) (hsize : ls.size = c.maxLocals)
    (htext : (text == notModelled) = false) (hnb : (stringBytes (stringToUtf16 text)).size ≤ nb) (hnb1 : nb ≤ 1000)
    {nf : NFrame} (hnf : nf.words = 0) (haw : nf.awaiting = false) (hlk : nf.locked = none) (hRframes : names.length + 5 < R.frames) (hRlocals : (rest.map fun v => v.category).sum + 10240 ≤ R.locals) (hshort : 13 * names.length + 55 ≤ 10240) (hRcells : cells + 3 ≤ R.cells) (hRslots : slots + (nb + 10) ≤ R.slots) (hlocks : meth.locks = false)
    (k : ∀ (H1 : Heap) (q9 : Addr) (ce : Cell), H.size ≤ H1.size → (∀ q : Nat, q < H.size → H1[q]? = H[q]?) → va_S A s.heap H1 locs → H1[q9]? = some ce → ce.vm = .none → s.vm.findClass cls = some ce.cls → vx_W p l e R s m args below meth c H1 locs (cells + 3) (slots + (nb + 10)) Q (F0 m pc ls rest) q9) :
    ∀ T : State, T.heap = H → Stand p l e R s m args below meth c T locs cells slots → ∃ t, Steps p.tables e below (T.setFrames (.throwNew cls (some text) none :: .native nf :: .java (F0 m pc ls rest) :: below)) t ∧ Q t := by
  intro T hT X
  have htr : e.platform.stackTraces = false := (show e.platform.stackTraces = l.stackTraces by rw [X.admits.platform]).trans hl
  have Y := vx_rebase X (R' := { frames := R.frames, locals := R.locals, cells := 3, slots := nb + 10 }) (Nat.le_refl _) (Nat.le_refl _) hRcells hRslots
  have hhp : ((T.setVm s.vm).setFrames (.invoking m args :: below)).heap = H := hT
  have hW0 : s.WarmedH ((T.setVm s.vm).setFrames (.invoking m args :: below)).vm := State.WarmedH.refl s
  have hat' : ∀ w ∈ vx_atM cls names, w.before args ((T.setVm s.vm).setFrames (.invoking m args :: below)) = true := fun w hw => vx_ot_at hW0 rfl (hgood w hw) (hat w hw)
  have hU' : vx_Zq Bundle.tN "UNASSIGNED_STACK" Bundle.steD A ((T.setVm s.vm).setFrames (.invoking m args :: below)) ((T.setVm s.vm).setFrames (.invoking m args :: below)).heap := by rw [hhp]; exact vx_Zq.moved hW0.alike (hU.kept hS.2.1)
  have hN' : vx_Zq Bundle.tN "SUPPRESSED_SENTINEL" Bundle.listD A ((T.setVm s.vm).setFrames (.invoking m args :: below)) ((T.setVm s.vm).setFrames (.invoking m args :: below)).heap := by rw [hhp]; exact vx_Zq.moved hW0.alike (hN.kept hS.2.1)
  obtain ⟨S, q, ce, st, Z, hce, hcl', hv⟩ := fw_vmAtN Y hexec htr (cls := cls) (names := names) (text := text) hcls hnames hsoe hoom (vx_own hat' (vx_isRefq hU'.1) (vx_isRefq hN'.1) hU'.2.word hN'.2.word) (fun x hx => nomatch hx) htext
    (by rw [Launch.admits_arrayLengthLimit X.admits]; omega) (by rw [Launch.admits_maxHeapBytes X.admits]; simp only [componentBytes]; omega)
    (g := F0 m pc ls rest) rfl hsize hnf haw hlk hRframes (by show 2 * 0 + (rest.map fun v => v.category).sum + 10240 ≤ R.locals; omega) hshort (by show 0 + 3 ≤ 3; omega) (by show 0 + (_ + 4 + 6) ≤ nb + 10; omega) hlocks
  obtain ⟨f1, f2⟩ := vx_frame Z.same
  have f1' : H.size ≤ S.heap.size := by rw [← hT]; exact f1
  have f2' : ∀ q : Nat, q < H.size → S.heap[q]? = H[q]? := fun q hq => by
    rw [← hT]
    exact f2 q (by rw [← hT] at hq; exact hq) (fun z hz => nomatch hz)
  have X5 := vx_back9 X Y Z
  have X6 : Stand p l e R s m args below meth c S locs (cells + 3) (slots + (nb + 10)) := { X5 with same := X5.same.mono (by omega) (by omega) }
  obtain ⟨t, a1, b1⟩ := k S.heap q ce f1' f2' ⟨Nat.le_trans hS.1 f1', fun q h1 h2 => (f2' q (Nat.lt_of_lt_of_le h1 hS.1)).trans (hS.2.1 q h1 h2), hS.2.2⟩ hce hv hcl' S rfl X6
  exact ⟨t, st t a1, b1⟩
end NVM
theorem fw_int_print {z : Int} (h : z.natAbs < 10 ^ 10) : (toString z).toList.length ≤ 11 := by
  show (Int.repr z).toList.length ≤ 11
  cases z with
  | ofNat m =>
    have := nat_print (n := m) h
    show (toString m).toList.length ≤ 11
    omega
  | negSucc m =>
    have := nat_print (n := m.succ) h
    show ("-" ++ toString m.succ).toList.length ≤ 11
    rw [String.toList_append, List.length_append]
    have h0 : "-".toList.length = 1 := by decide
    omega
theorem fw_cptx (w : String) (h : w.toList.length ≤ 200) : (("arraycopy: " ++ w) == notModelled) = false ∧ (stringBytes (stringToUtf16 ("arraycopy: " ++ w))).size ≤ 1000 := by
  constructor
  · rw [beq_eq_false_iff_ne]
    intro e
    have h2 := congrArg String.toList e
    have h4 : notModelled.toList = '\u0000' :: " a message that is not modelled".toList := by decide
    have h3 : ("arraycopy: " ++ w).toList = 'a' :: ("rraycopy: ".toList ++ w.toList) := by
      rw [String.toList_append]
      rfl
    rw [h3, h4] at h2
    simp at h2
  · have b1 := stringBytes_size_le (stringToUtf16 ("arraycopy: " ++ w))
    have b2 := utf16_size_le ("arraycopy: " ++ w)
    have b3 : ("arraycopy: " ++ w).toList.length ≤ 211 := by
      rw [String.toList_append, List.length_append]
      have : "arraycopy: ".toList.length = 11 := by decide
      omega
    omega
def fw_cpin (sp dp n : Int32) (n0 n1 : Nat) : Prop := (¬ sp < 0 ∧ ¬ dp < 0 ∧ ¬ n < 0) ∧ (sp.toNatClampNeg + n.toNatClampNeg ≤ n0 ∧ dp.toNatClampNeg + n.toNatClampNeg ≤ n1)
theorem fw_kind3 {ty : FieldType} (h : ty = .int ∨ ty = .byte ∨ ty = .short) : (Native.java_lang_System.arraycopy.kindName ty).toList.length ≤ 5 := by
  rcases h with e | e | e <;> subst e <;> decide
theorem fw_cpt {ty : FieldType} (hty : ty = .int ∨ ty = .byte ∨ ty = .short) {n0 n1 : Nat} (h0 : n0 < 2147483648) (h1 : n1 < 2147483648) {sp dp n : Int32} (hout : ¬ fw_cpin sp dp n n0 n1) : ∃ what, copyFault ty ty n0 n1 sp dp n = some what ∧ what.toList.length ≤ 200 := by
  have k1 := fw_kind3 hty
  have p1 := int32_print sp
  have p2 := int32_print dp
  have p3 := int32_print n
  have p4 := nat_print (n := n0) (by omega)
  have p5 := nat_print (n := n1) (by omega)
  have q1 := Int32.toInt_lt sp
  have q2 := Int32.le_toInt sp
  have q3 := Int32.toInt_lt dp
  have q4 := Int32.le_toInt dp
  have q5 := Int32.toInt_lt n
  have q6 := Int32.le_toInt n
  have p6 := fw_int_print (z := sp.toInt + n.toInt) (by omega)
  have p7 := fw_int_print (z := dp.toInt + n.toInt) (by omega)
  have a1 : (toString "source index ").toList.length ≤ 30 := by decide
  have a2 : (toString " out of bounds for ").toList.length ≤ 30 := by decide
  have a3 : (toString "[").toList.length ≤ 1 := by decide
  have a4 : (toString "]").toList.length ≤ 1 := by decide
  have a5 : (toString "destination index ").toList.length ≤ 30 := by decide
  have a6 : (toString "length ").toList.length ≤ 30 := by decide
  have a7 : (toString " is negative").toList.length ≤ 30 := by decide
  have a8 : (toString "last source index ").toList.length ≤ 30 := by decide
  have a9 : (toString "last destination index ").toList.length ≤ 30 := by decide
  have a0 : (toString "").toList.length ≤ 0 := by decide
  unfold copyFault
  by_cases c1 : sp < 0
  · rw [if_pos c1]
    refine ⟨_, rfl, ?_⟩
    simp only [String.toList_append, List.length_append, toString] at *
    omega
  · rw [if_neg c1]
    by_cases c2 : dp < 0
    · rw [if_pos c2]
      refine ⟨_, rfl, ?_⟩
      simp only [String.toList_append, List.length_append, toString] at *
      omega
    · rw [if_neg c2]
      by_cases c3 : n < 0
      · rw [if_pos c3]
        refine ⟨_, rfl, ?_⟩
        simp only [String.toList_append, List.length_append, toString] at *
        omega
      · rw [if_neg c3]
        by_cases c4 : sp.toInt + n.toInt > n0
        · rw [if_pos c4]
          refine ⟨_, rfl, ?_⟩
          simp only [String.toList_append, List.length_append, toString] at *
          omega
        · rw [if_neg c4]
          by_cases c5 : dp.toInt + n.toInt > n1
          · rw [if_pos c5]
            refine ⟨_, rfl, ?_⟩
            simp only [String.toList_append, List.length_append, toString] at *
            omega
          · refine (hout ⟨⟨c1, c2, c3⟩, ?_, ?_⟩).elim
            · have e1 := toNatClampNeg_of_not_neg32 sp c1
              have e3 := toNatClampNeg_of_not_neg32 n c3
              omega
            · have e2 := toNatClampNeg_of_not_neg32 dp c2
              have e3 := toNatClampNeg_of_not_neg32 n c3
              omega
/-- System.arraycopy between arrays of one kind of three: out of bounds it throws -/
def fw_cpX {β : Type} (L : LH) (j : Nat) (sp : Int32) (i : Nat) (dp n : Int32) (kx : XO → LH → Rs β) (k : LH → Rs β) : Rs β :=
  if (lh_k L j = lh_k L i ∧ (lh_k L j = 100 ∨ lh_k L j = 101 ∨ lh_k L j = 102)) ∧ lh_n L j < 2147483648 ∧ lh_n L i < 2147483648 then
    (if (¬ sp < 0 ∧ ¬ dp < 0 ∧ ¬ n < 0) ∧ (sp.toNatClampNeg + n.toNatClampNeg ≤ lh_n L j ∧ dp.toNatClampNeg + n.toNatClampNeg ≤ lh_n L i) then
      (if fw_fit (lh_k L j - 100) (lh_I L j) sp.toNatClampNeg n.toNatClampNeg = true then k (fw_cpL L j sp.toNatClampNeg i dp.toNatClampNeg n.toNatClampNeg) else none)
    else fw_th nAI L kx) else none
section RowsN
variable {K : Kx} {cc : ByteArray} {nL F Lo : Nat} {own : String} {L : LH} {mc ms pc : Nat} {lv : List (Nat × AV)} {st st0 : List AV}
set_option maxHeartbeats 2000000 in
theorem aw_copyX {β : Type} (hK : Ok K cc nL own F Lo) (hZ : fw_isZ K) {index j i : Nat} {sp dp n : Int32} (hq1 : Cond.methodLink own index arraycopyName ∈ lw_all) (hq2 : Cond.native arraycopyName ∈ lw_all) (hq3 : Cond.static arraycopyName ∈ lw_all) (hq4 : Cond.initialized "java/lang/System" ∈ lw_all) {k : LH → Rs β} {kx : XO → LH → Rs β} {b : β} {L9 : LH} (hdg : decode cc pc = .ok (.invokestatic index, 3)) (hF : 9 ≤ F ∧ 10248 ≤ Lo ∧ (st.map catA).sum + (nativeFrameWords "java/lang/System" "arraycopy" 5 + 11) ≤ Lo) (hcat : (st.map catA).sum ≤ 8) (h : fw_cpX L j sp i dp n kx k = some (b, L9, mc, ms)) (kX : ∀ c2 s2, kx (.inr nAI) L = some (b, L9, c2, s2) → AX K L c2 s2 pc lv (.inr nAI)) (kk : ∀ L1, k L1 = some (b, L9, mc, ms) → AW K L1 mc ms (pc + 3) lv st) : AW K L mc ms pc lv (aI n :: aI dp :: aR (some i) :: aI sp :: aR (some j) :: st) := by
  obtain ⟨⟨⟨hk, hk3⟩, hn0, hn1⟩, h⟩ := fw_if_h h
  obtain ⟨t, ht, hkt⟩ : ∃ t, t < 3 ∧ lh_k L j = 100 + t := ⟨lh_k L j - 100, by omega, by omega⟩
  have hki : lh_k L i = 100 + t := by rw [← hk]; exact hkt
  by_cases hin : (¬ sp < 0 ∧ ¬ dp < 0 ∧ ¬ n < 0) ∧ (sp.toNatClampNeg + n.toNatClampNeg ≤ lh_n L j ∧ dp.toNatClampNeg + n.toNatClampNeg ≤ lh_n L i)
  · rw [if_pos hin] at h
    obtain ⟨hfit, h⟩ := fw_if_h h
    rw [hkt, Nat.add_sub_cancel_left] at hfit
    exact aw_copy hK t ht hq1 hq2 hq3 hq4 hdg ⟨by omega, hF.2.2⟩ (k := k) (by unfold fw_cp; rw [if_pos ⟨⟨hkt, hki⟩, hin.1, hin.2, hfit⟩]; exact h) kk
  · rw [if_neg hin] at h
    obtain ⟨c2, s2, h', rfl, rfl⟩ := fw_th_h h
    intro ad H locs cells slots ls hW hl hs hc hm hv T hT X
    have hw := hW.2.2.2.2.2
    have hcat' : (((st.map (cv ad)).map fun v => v.category).sum) = (st.map catA).sum := by
      rw [List.map_map]
      congr 2
      funext v
      exact cv_cat ad v
    have hty : fw_arr t = .int ∨ fw_arr t = .byte ∨ fw_arr t = .short := by
      rcases (show t = 0 ∨ t = 1 ∨ t = 2 by omega) with e | e | e <;> rw [e]
      · exact Or.inl rfl
      · exact Or.inr (Or.inl rfl)
      · exact Or.inr (Or.inr rfl)
    have hc0 : H[ad j]? = some (vp_cell ((kx_G K).2.1 t) (lh_n L j, .inl (lh_I L j))) := hW.1 j _ (fw_getA hw hkt (by omega))
    have hc1 : H[ad i]? = some (vp_cell ((kx_G K).2.1 t) (lh_n L i, .inl (lh_I L i))) := hW.1 i _ (fw_getA hw hki (by omega))
    obtain ⟨-, k0, hk0, cm0, hkk0⟩ := (hK.hK.2 t _ (fw_tysAt (by omega))).1 (lh_n L j) (fun x => .int (lh_I L j x))
    obtain ⟨what, hcf, hwl⟩ := fw_cpt hty hn0 hn1 (sp := sp) (dp := dp) (n := n) hin
    obtain ⟨htx, hnb⟩ := fw_cptx what hwl
    obtain ⟨r, kS, methS, hnS, hmS, hkS, N⟩ := NativeOf.of_static (x := arraycopyName) (hK.ts _ hq2) (hK.ts _ hq3) (ps := [.object "java/lang/Object", .int, .object "java/lang/Object", .int, .int]) (ret := none) (by decide +kernel)
    have hinitS : kS.init = .initialized := Cond.initialized_spec (findClass_of_methodNamed hnS) hkS (hK.ts _ hq4)
    obtain ⟨vm', X', step⟩ := X.invokestatic hK.x hK.ow (hK.ts _ hq1) hnS hmS N.static hkS hinitS (by decide) (g := F0 (kx_m K) pc ls ((aI n :: aI dp :: aR (some i) :: aI sp :: aR (some j) :: st).map (cv ad))) rfl (argsL := [.ref (ad j), .int sp, .ref (ad i), .int dp, .int n]) (rest := st.map (cv ad)) (by rw [N.sig]; rfl) rfl (by rw [hK.b]; exact hdg)
    have hA' : (kx_s K).vm.Alike vm' := X'.warmed.alike
    obtain ⟨kS', N'⟩ := N.alike hA'
    obtain ⟨k0', hk0', he0⟩ := hA'.2.2 _ _ hk0
    have hz := (fw_zx hK hZ).2.2.2.1
    have hE := fw_mAI
    have h3 := hE.2.2.2
    have nf0 : NFrame := { method := r, args := #[.ref (ad j), .int sp, .ref (ad i), .int dp, .int n], locked := none }
    obtain ⟨t9, a9, b9⟩ := fw_vmN (names := fw_up nAI) (nb := 1000) (A := kx_A K) hK.x (fw_nst _ hK.fl) hE.1.1 hE.1.2.1 hE.1.2.2.1 hE.1.2.2.2 (fw_hat hK hZ hE) (fun w hw => List.all_eq_true.mp hE.2.2.1 w hw) hz.1 hz.2.1 hW.2.2.1 hv.1 htx hnb (Nat.le_refl _) (nf := { method := r, args := #[.ref (ad j), .int sp, .ref (ad i), .int dp, .int n], locked := none }) rfl rfl rfl (by rw [hK.fr]; omega) (by rw [hcat', hK.lo]; omega) (by omega) (by omega) (by omega) hK.lk
      (fun H1 q9 ce h1 h2 h3 h4 h5 h6 => kX c2 s2 h' ad H1 locs (cells + 3) (slots + (1000 + 10)) ls _ q9 ce ⟨hW.1.kept (fun k q hk => h2 _ (vx_lt hW.1 hk)), hW.2.1, h3, hW.2.2.2⟩ hl (by omega) (by omega) hv h4 h5 h6 (fun j e => by cases e)) (T.setVm vm') hT X'
    refine ⟨t9, step t9 (fun acts => ?_), b9⟩
    have hseen : seenByNative methS #[.ref (ad j), .int sp, .ref (ad i), .int dp, .int n] = #[.ref (ad j), .int sp, .ref (ad i), .int dp, .int n] := by
      simp [seenByNative, N.static, N.sig, narrow]
    refine Steps.nativeThrowsNote (row := arraycopyRow) (T := fun u => u) X'.here acts N'.cls N'.meth N'.boot N'.native N'.noCode N'.noLock (by rw [N'.className, N'.name, N'.desc]; exact arraycopy_row (kx_p K)) (by rw [N'.className, N'.name]; exact X'.notFull (g := F0 (kx_m K) pc ls (st.map (cv ad))) (vars := nativeFrameWords "java/lang/System" "arraycopy" 5) hv.1 (by rw [hK.fr]; omega) (by rw [hK.lo]; show 2 * 0 + (((st.map (cv ad)).map fun v => v.category).sum) + _ ≤ Lo; rw [hcat']; omega)) (cls := nAI) (msg := some ("arraycopy: " ++ what)) (fun E hE => ?_) ?_
    · rw [hseen] at hE ⊢
      rw [arraycopyRow_sem]
      exact W.arraycopy_bounds (cs := vp_cell ((kx_G K).2.1 t) (lh_n L j, .inl (lh_I L j))) (cd := vp_cell ((kx_G K).2.1 t) (lh_n L i, .inl (lh_I L i))) (sType := fw_arr t) (dType := fw_arr t) (by show T.heap[ad j]? = _; rw [hT]; exact hc0) (by show T.heap[ad i]? = _; rw [hT]; exact hc1) (fun _ h => by cases h) (fun _ h => by cases h) hk0' hk0' (by rw [he0]; exact hkk0) (by rw [he0]; exact hkk0) (by rcases hty with e | e | e <;> rw [e] <;> rfl) (by show copyFault _ _ (arrV _ (lh_n L j) _).slots.size (arrV _ (lh_n L i) _).slots.size _ _ _ = _; rw [arrV_size, arrV_size]; exact hcf) (hE _)
    · rw [hseen]
      obtain ⟨g₁, hfrM⟩ := X'.frames_eq
      have e9 : (((T.setVm vm').setTop (F0 (kx_m K) pc ls (st.map (cv ad)))).pushFrame (.native { method := r, args := #[.ref (ad j), .int sp, .ref (ad i), .int dp, .int n], locked := none })).pushFrame (.throwNew nAI (some ("arraycopy: " ++ what)) none) = (T.setVm vm').setFrames (.throwNew nAI (some ("arraycopy: " ++ what)) none :: .native { method := r, args := #[.ref (ad j), .int sp, .ref (ad i), .int dp, .int n], locked := none } :: .java (F0 (kx_m K) pc ls (st.map (cv ad))) :: kx_b K) := by
        rw [State.pushFrame, State.pushFrame, State.setTop_of_frames _ hfrM]
        simp only [State.setFrames_setFrames]
        rw [State.frames_setFrames _ (State.cur_lt_of_frames hfrM)]
        rw [State.frames_setFrames _ (State.cur_lt_of_frames hfrM)]
      show Steps _ _ _ ((((T.setVm vm').setTop (F0 (kx_m K) pc ls (st.map (cv ad)))).pushFrame (.native { method := r, args := #[.ref (ad j), .int sp, .ref (ad i), .int dp, .int n], locked := none })).pushFrame (.throwNew nAI (some ("arraycopy: " ++ what)) none)) t9
      rw [e9]
      exact a9
end RowsN
