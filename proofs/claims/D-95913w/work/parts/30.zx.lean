set_option maxRecDepth 100000
/-! What stands from the start and is never written: the array of sorts and its three, ArrayList's empty array, the four texts, the Throwable's two statics; words of the tables that don't ride in the lists. -/
def fw_zw : List Cond := [.fieldLinkNest "TugOfWar" 179 "TugOfWar$Sheet" "row" "Ljava/lang/Object;" "TugOfWar", .fieldLinkNest "TugOfWar$Text" 53 "TugOfWar$Torn" "place" "I" "TugOfWar", .fieldLinkNest "TugOfWar$Team" 36 "TugOfWar" "SORT" "[LTugOfWar$Sort;" "TugOfWar", .fieldLinkNest "TugOfWar" 199 "TugOfWar$Puller" "sort" "LTugOfWar$Sort;" "TugOfWar", .fieldLinkNest "TugOfWar" 208 "TugOfWar$Puller" "weight" "I" "TugOfWar", .fieldLinkNest "TugOfWar" 214 "TugOfWar$Puller" "wind" "I" "TugOfWar"]
def fw_zm : List Cond := [.methodLinkNest "TugOfWar" 79 ⟨"TugOfWar$Sheet", "<init>", "()V"⟩ "TugOfWar"]
def fw_zc : List (String × String) := [("TugOfWar$Team", "TugOfWar$Text"), ("TugOfWar$Captain", "TugOfWar$Text"), ("TugOfWar$Puller", "java/lang/Object"), ("[I", "java/lang/Object"), ("TugOfWar$Torn", "TugOfWar$Torn"), ("java/lang/NegativeArraySizeException", "java/lang/NegativeArraySizeException"), ("java/lang/ClassCastException", "java/lang/ClassCastException"), ("java/lang/ArrayIndexOutOfBoundsException", "java/lang/ArrayIndexOutOfBoundsException"), ("java/lang/ArrayIndexOutOfBoundsException", "java/lang/IndexOutOfBoundsException")]
def fw_zd : List MethodName := [⟨"java/lang/RuntimeException", "<init>", "()V"⟩, ⟨"java/lang/RuntimeException", "<init>", "(Ljava/lang/String;)V"⟩, ⟨"java/lang/IndexOutOfBoundsException", "<init>", "()V"⟩, ⟨"java/lang/IndexOutOfBoundsException", "<init>", "(Ljava/lang/String;)V"⟩, ⟨"java/lang/Exception", "<init>", "()V"⟩, ⟨"java/lang/Exception", "<init>", "(Ljava/lang/String;)V"⟩, ⟨"java/lang/Throwable", "<init>", "()V"⟩, ⟨"java/lang/Throwable", "<init>", "(Ljava/lang/String;)V"⟩, ⟨"TugOfWar$Text", "many", "()I"⟩, ⟨"TugOfWar$Text", "clear", "()V"⟩, ⟨"TugOfWar$Text", "isFull", "()Z"⟩, ⟨"TugOfWar$Text", "part", "()V"⟩, ⟨"TugOfWar$Text", "passes", "(Ljava/lang/String;)I"⟩, ⟨"TugOfWar$Text", "read", "()I"⟩]
def fw_za : List FieldType := [.object "TugOfWar$Team", .object "TugOfWar$Captain", .object "TugOfWar$Text", .object "TugOfWar$Sheet", .object "java/lang/Object", .array .int]
def fw_zn : List (String × String) := [("[I", "[B"), ("[I", "[S"), ("[S", "[B"), ("[S", "[I"), ("[B", "[I"), ("[B", "[S"), ("java/lang/ArrayIndexOutOfBoundsException", "java/lang/ClassCastException")]
def fw_sl : List Nat := [3, 9, 1, 3]
def fw_sb : List (List Int32) := [[104, 108, 97], [49, 50, 51, 52, 53, 54, 55, 56, 57], [59], [114, 112, 104]]
def fw_zs : List (String × MethodName) := [("TugOfWar$Team", ⟨"TugOfWar$Text", "reads", "()I"⟩), ("TugOfWar$Captain", ⟨"TugOfWar$Text", "reads", "()I"⟩), ("TugOfWar$Team", ⟨"TugOfWar$Text", "next", "()V"⟩), ("TugOfWar$Captain", ⟨"TugOfWar$Text", "next", "()V"⟩)]
def fw_ao (ty : FieldType) (U : State) : Prop := (Cond.arrayOver ty).before #[] U = true
theorem fw_ao_arr {u U : State} (hvm : u.vm.Alike U.vm) (h : fw_ao (.array .int) u) : fw_ao (.array .int) U := by
  unfold fw_ao Cond.before Cond.holds at h ⊢
  simp only [Cond.value, beq_iff_eq] at h ⊢
  rw [hvm.findClass]
  cases hc : u.vm.findClass (FieldType.array .int).toString with
  | none => rw [hc] at h; cases h
  | some comp =>
    rw [hc] at h
    simp only [Option.bind_some, Option.bind_eq_some_iff, Option.map_eq_some_iff] at h ⊢
    obtain ⟨c, hi, k, hk, hb⟩ := h
    obtain ⟨k', hk', he⟩ := hvm.2.2 _ _ hk
    have e1 := va_idx_bare U.vm comp
    have e2 := va_idx_bare u.vm comp
    have e3 : u.vm.bare = U.vm.bare := by first | exact hvm.bare_eq | exact hvm.bare_eq.symm
    rw [e3] at e2
    refine ⟨c, (e1.symm.trans e2).trans hi, k', hk', ?_⟩
    rw [he, hvm.findClass]
    exact hb
theorem fw_ao_moved {ty : FieldType} (ht : ty ∈ fw_za) {u U : State} (hvm : u.vm.Alike U.vm) (h : fw_ao ty u) : fw_ao ty U := by
  simp only [fw_za, List.mem_cons, List.not_mem_nil, or_false] at ht
  rcases ht with rfl | rfl | rfl | rfl | rfl | rfl
  · exact va_AO.moved hvm h
  · exact va_AO.moved hvm h
  · exact va_AO.moved hvm h
  · exact va_AO.moved hvm h
  · exact va_AO.moved hvm h
  · exact fw_ao_arr hvm h
def fw_Zr (C n d : String) (a : Nat) (A : Nat → Prop) (U : State) (H : Heap) : Prop := va_Z C n d .null A U H ∨ va_Z C n d (.ref a) A U H
theorem fw_Zr.moved {C n d : String} {a : Nat} {A : Nat → Prop} {u U : State} {H : Heap} (hvm : u.vm.Alike U.vm) (h : fw_Zr C n d a A u H) : fw_Zr C n d a A U H := h.imp (va_Z.moved hvm) (va_Z.moved hvm)
theorem fw_Zr.kept {C n d : String} {a : Nat} {A : Nat → Prop} {U : State} {H H1 : Heap} (h : fw_Zr C n d a A U H) (hq : ∀ a : Nat, a < H.size → ¬ A a → H1[a]? = H[a]?) : fw_Zr C n d a A U H1 := h.imp (fun z => z.kept hq) (fun z => z.kept hq)
theorem fw_Zr.narrow {C n d : String} {a : Nat} {A B : Nat → Prop} {U : State} {H : Heap} (h : fw_Zr C n d a A U H) (hAB : ∀ q, B q → A q) : fw_Zr C n d a B U H := h.imp (fun z => z.narrow hAB) (fun z => z.narrow hAB)
def fw_ZX0 : fw_ZT := fun ro A U H =>
  (va_Z "TugOfWar" "SORT" "[LTugOfWar$Sort;" (.ref (ro 0)) A U H ∧ va_T (.object "TugOfWar$Sort") (ro 0) 3 (fun j => .ref (ro (1 + j))) A U H ∧ va_O "TugOfWar$Sort" (ro 1) A U H ∧ va_O "TugOfWar$Limber" (ro 2) A U H ∧ va_O "TugOfWar$Anchor" (ro 3) A U H) ∧
  (va_Z "java/util/ArrayList" "DEFAULTCAPACITY_EMPTY_ELEMENTDATA" "[Ljava/lang/Object;" (.ref (ro 4)) A U H ∧ va_T (.object "java/lang/Object") (ro 4) 0 (fun _ => .null) A U H) ∧
  (vk_S 4 fw_sl fw_sb (fun i => ro (5 + i)) (fun i => ro (9 + i)) A U H ∧ va_Z "java/lang/String" "COMPACT_STRINGS" "Z" (.int 1) A U H) ∧
  (vx_Zq "java/lang/Throwable" "UNASSIGNED_STACK" "[Ljava/lang/StackTraceElement;" A U H ∧ vx_Zq "java/lang/Throwable" "SUPPRESSED_SENTINEL" "Ljava/util/List;" A U H ∧ fw_Zr "java/lang/Throwable" "UNASSIGNED_STACK" "[Ljava/lang/StackTraceElement;" (ro 13) A U H ∧ fw_Zr "java/lang/Throwable" "SUPPRESSED_SENTINEL" "Ljava/util/List;" (ro 14) A U H) ∧
  (vk_R "TugOfWar$Team" 40 "hla" (ro 5) U ∧ vk_R "TugOfWar$Team" 42 "123456789" (ro 6) U ∧ vk_R "TugOfWar$Team" 30 ";" (ro 7) U ∧ vk_R "TugOfWar$Captain" 29 "rph" (ro 8) U) ∧
  (∀ w ∈ fw_zw, va_Nw w U) ∧ (∀ w ∈ fw_zm, va_Nw w U) ∧ (∀ q ∈ fw_zc, va_Nw (.castable q.1 q.2) U) ∧ (∀ x ∈ fw_zd, va_Nw (.declares x) U) ∧ (∀ ty ∈ fw_za, fw_ao ty U) ∧ (∀ q ∈ fw_zn, va_Nc q.1 q.2 U) ∧ (∀ q ∈ fw_zs, va_Nw (.selects q.1 q.2 q.2) U)
theorem fw_al_same {u U : State} (h : U.vm = u.vm) : u.vm.Alike U.vm := by rw [h]; exact Vm.Alike.refl u.vm
theorem fw_ZX0_ok : fw_Zok fw_ZX0 := by
  refine ⟨fun ro A u U H hv h => ?_, fun ro A u U H hW h => ?_, fun ro A U H H1 hq h => ?_, fun ro A B U H hq h => ?_⟩
  · obtain ⟨⟨a1, a2, a3, a4, a5⟩, ⟨b1, b2⟩, ⟨c1, c2⟩, ⟨d1, d2, d3, d4⟩, ⟨e1, e2, e3, e4⟩, f1, f2, f3, f4, f5, f6, f7⟩ := h
    have m := fw_al_same hv
    refine ⟨⟨a1.moved m, a2.moved m, a3.moved m, a4.moved m, a5.moved m⟩, ⟨b1.moved m, b2.moved m⟩, ⟨c1.moved m, c2.moved m⟩, ⟨d1.moved m, d2.moved m, d3.moved m, d4.moved m⟩, ⟨e1.same hv, e2.same hv, e3.same hv, e4.same hv⟩, fun w hw => ?_, fun w hw => ?_, fun q hq => va_Nw.same rfl hv.symm (f3 q hq), fun x hx => va_Nw.same rfl hv.symm (f4 x hx), fun ty hy => fw_ao_moved hy m (f5 ty hy), fun q hq => (f6 q hq).moved m, fun q hq => va_Nw.same rfl hv.symm (f7 q hq)⟩
    · have := f1 w hw
      simp only [fw_zw, List.mem_cons, List.not_mem_nil, or_false] at hw
      rcases hw with rfl | rfl | rfl | rfl | rfl | rfl <;> exact va_Nw.same rfl hv.symm this
    · have := f2 w hw
      simp only [fw_zm, List.mem_cons, List.not_mem_nil, or_false] at hw
      subst hw
      exact va_Nw.same rfl hv.symm this
  · obtain ⟨⟨a1, a2, a3, a4, a5⟩, ⟨b1, b2⟩, ⟨c1, c2⟩, ⟨d1, d2, d3, d4⟩, ⟨e1, e2, e3, e4⟩, f1, f2, f3, f4, f5, f6, f7⟩ := h
    have m := hW.alike
    refine ⟨⟨a1.moved m, a2.moved m, a3.moved m, a4.moved m, a5.moved m⟩, ⟨b1.moved m, b2.moved m⟩, ⟨c1.moved m, c2.moved m⟩, ⟨d1.moved m, d2.moved m, d3.moved m, d4.moved m⟩, ⟨e1.warm hW, e2.warm hW, e3.warm hW, e4.warm hW⟩, fun w hw => ?_, fun w hw => ?_, fun q hq => va_Nw.warmC hW (f3 q hq), fun x hx => va_Nw.warmD hW (f4 x hx), fun ty hy => fw_ao_moved hy m (f5 ty hy), fun q hq => (f6 q hq).moved m, fun q hq => word_at hW (good_of_word rfl) (f7 q hq)⟩
    · have := f1 w hw
      simp only [fw_zw, List.mem_cons, List.not_mem_nil, or_false] at hw
      rcases hw with rfl | rfl | rfl | rfl | rfl | rfl <;> exact va_Nw.warmF hW this
    · have := f2 w hw
      simp only [fw_zm, List.mem_cons, List.not_mem_nil, or_false] at hw
      subst hw
      exact va_Nw.warmM hW this
  · obtain ⟨⟨a1, a2, a3, a4, a5⟩, ⟨b1, b2⟩, ⟨c1, c2⟩, ⟨d1, d2, d3, d4⟩, e, f⟩ := h
    exact ⟨⟨a1.kept hq, a2.kept hq, a3.kept hq, a4.kept hq, a5.kept hq⟩, ⟨b1.kept hq, b2.kept hq⟩, ⟨c1.kept hq, c2.kept hq⟩, ⟨d1.kept hq, d2.kept hq, d3.kept hq, d4.kept hq⟩, e, f⟩
  · obtain ⟨⟨a1, a2, a3, a4, a5⟩, ⟨b1, b2⟩, ⟨c1, c2⟩, ⟨d1, d2, d3, d4⟩, e, f⟩ := h
    exact ⟨⟨a1.narrow hq, a2.narrow hq, a3.narrow hq, a4.narrow hq, a5.narrow hq⟩, ⟨b1.narrow hq, b2.narrow hq⟩, ⟨c1.narrow hq, c2.narrow hq⟩, ⟨d1.narrow hq, d2.narrow hq, d3.narrow hq, d4.narrow hq⟩, e, f⟩
/-- the Throwable's two statics: null or one of the constants -/
def fw_zb (b : Bool) (C n d : String) (a : Nat) (A : Nat → Prop) (U : State) (H : Heap) : Prop := va_Z C n d (if b = true then .null else .ref a) A U H
def fw_ZX (b1 b2 : Bool) : fw_ZT := fun ro A U H => fw_ZX0 ro A U H ∧ fw_zb b1 "java/lang/Throwable" "UNASSIGNED_STACK" "[Ljava/lang/StackTraceElement;" (ro 13) A U H ∧ fw_zb b2 "java/lang/Throwable" "SUPPRESSED_SENTINEL" "Ljava/util/List;" (ro 14) A U H
theorem fw_ZX_ok {b1 b2 : Bool} : fw_Zok (fw_ZX b1 b2) :=
  ⟨fun ro A u U H hv h => ⟨fw_ZX0_ok.1 ro A u U H hv h.1, va_Z.moved (fw_al_same hv) h.2.1, va_Z.moved (fw_al_same hv) h.2.2⟩, fun ro A u U H hW h => ⟨fw_ZX0_ok.2.1 ro A u U H hW h.1, va_Z.moved hW.alike h.2.1, va_Z.moved hW.alike h.2.2⟩, fun ro A U H H1 hq h => ⟨fw_ZX0_ok.2.2.1 ro A U H H1 hq h.1, va_Z.kept h.2.1 hq, va_Z.kept h.2.2 hq⟩, fun ro A B U H hq h => ⟨fw_ZX0_ok.2.2.2 ro A B U H hq h.1, va_Z.narrow h.2.1 hq, va_Z.narrow h.2.2 hq⟩⟩
def fw_isZ (K : Kx) : Prop := ∃ b1 b2 : Bool, kx_Z K = fw_ZX b1 b2
def fw_Cx (y : MethodName) (ws : List Cond) (fr lo : Nat) (args : List AV) (L : LH) (r : Option AV) (L' : LH) (mc ms : Nat) : Prop := ∀ b1 b2 : Bool, Ct (fw_ZX b1 b2) y ws fr lo args L r L' mc ms

