/-! SOUNDNESS, fourth: what holds all through a run; a step's start and end -/
def ja_A (lo : Nat) : Nat → Prop := fun q => lo ≤ q
def ja_nwp : Cond → Bool
  | .fieldLinkNest _ _ _ _ _ _ => true
  | .methodLinkNest _ _ _ _ => true
  | .castable _ _ => true
  | .declares _ => true
  | _ => false
def ja_nwl : List Cond := lw_tbl.filter ja_nwp
theorem ja_nw_in {w : Cond} (h : w ∈ lw_tbl) (g : ja_nwp w = true) : w ∈ ja_nwl := List.mem_filter.mpr ⟨h, g⟩
def ja_strs : List (String × Nat × String × Nat) := [("java/lang/StringLatin1", 151, "", 1), ("BatchRenamer", 408, "-", 2), ("BatchRenamer", 410, " to ", 3), ("BatchRenamer$Planner", 115, "tmp", 4), ("BatchRenamer$Reading", 18, "", 1), ("BatchRenamerModel", 256, "file", 5), ("BatchRenamerModel", 261, "keep", 6), ("BatchRenamerModel", 266, "count", 7), ("BatchRenamerModel", 271, "rule", 8), ("BatchRenamerModel", 219, "by", 9), ("BatchRenamer$Parser", 18, "", 1), ("BatchRenamer$Parser", 96, "file", 5), ("BatchRenamer$Parser", 102, "keep", 6), ("BatchRenamer$Parser", 104, "rule", 8), ("BatchRenamer$Parser", 106, "count", 7), ("BatchRenamer$Parser", 172, "by", 9), ("BatchRenamer$Rule", 96, "", 1)]
def ja_stas : List (String × String × String × Nat) := [("java/util/ArrayList", "EMPTY_ELEMENTDATA", "[Ljava/lang/Object;", 20), ("java/util/ArrayList", "DEFAULTCAPACITY_EMPTY_ELEMENTDATA", "[Ljava/lang/Object;", 21), ("java/lang/Integer", "DigitOnes", "[B", 22), ("java/lang/Integer", "DigitTens", "[B", 23), ("java/lang/Throwable", "UNASSIGNED_STACK", "[Ljava/lang/StackTraceElement;", 24), ("java/lang/Throwable", "SUPPRESSED_SENTINEL", "Ljava/util/List;", 25), ("jdk/internal/util/Preconditions", "SIOOBE_FORMATTER", "Ljava/util/function/BiFunction;", 26)]
def ja_itH : MethodName := ⟨"java/util/Iterator", "hasNext", "()Z"⟩
def ja_itN : MethodName := ⟨"java/util/Iterator", "next", "()Ljava/lang/Object;"⟩
def ja_cpC : MethodName := ⟨"BatchRenamer$Copied", "copy", "()Ljava/lang/Object;"⟩
def ja_fws : List (String × MethodName × MethodName) := [("java/util/ArrayList$Itr", ja_itH, yJ22_hasNext), ("java/util/ArrayList$Itr", ja_itN, yJ22_next), ("java/util/ArrayDeque$DeqIterator", ja_itH, yJ24_hasNext), ("java/util/ArrayDeque$DeqIterator", ja_itN, yJ24_next), ("BatchRenamer$Board", ja_cpC, yX2_copy_2)]
def ja_ncs : List (String × String) := [("java/lang/IllegalArgumentException", "java/lang/IllegalStateException"), ("java/lang/IllegalArgumentException", "java/lang/IndexOutOfBoundsException"), ("java/lang/IllegalStateException", "java/lang/IllegalArgumentException"), ("java/lang/IllegalStateException", "java/lang/IndexOutOfBoundsException"), ("java/lang/IndexOutOfBoundsException", "java/lang/IllegalArgumentException"), ("java/lang/IndexOutOfBoundsException", "java/lang/IllegalStateException")]
/-- the lambdas' sites -/
def ja_sh30 : Jvm.Lambda.Shape := ({ iface := "BatchRenamer$Piece", name := "write", sam := ({ parameters := [(Jvm.ClassFile.FieldType.object "java/lang/StringBuilder"), (Jvm.ClassFile.FieldType.object "BatchRenamer$Reading")], returnType := (Option.none : Option Jvm.ClassFile.FieldType) } : Jvm.ClassFile.MethodDescriptor), captured := [Jvm.ClassFile.FieldType.char], kind := 6, implClass := "BatchRenamer$Rule", implName := "lambda$takes$0", implDesc := ({ parameters := [Jvm.ClassFile.FieldType.char, (Jvm.ClassFile.FieldType.object "java/lang/StringBuilder"), (Jvm.ClassFile.FieldType.object "BatchRenamer$Reading")], returnType := (Option.none : Option Jvm.ClassFile.FieldType) } : Jvm.ClassFile.MethodDescriptor), implItf := false, inst := ({ parameters := [(Jvm.ClassFile.FieldType.object "java/lang/StringBuilder"), (Jvm.ClassFile.FieldType.object "BatchRenamer$Reading")], returnType := (Option.none : Option Jvm.ClassFile.FieldType) } : Jvm.ClassFile.MethodDescriptor) } : Jvm.Lambda.Shape)
def ja_sh31 : Jvm.Lambda.Shape := ({ iface := "BatchRenamer$Piece", name := "write", sam := ({ parameters := [(Jvm.ClassFile.FieldType.object "java/lang/StringBuilder"), (Jvm.ClassFile.FieldType.object "BatchRenamer$Reading")], returnType := (Option.none : Option Jvm.ClassFile.FieldType) } : Jvm.ClassFile.MethodDescriptor), captured := [], kind := 6, implClass := "BatchRenamer$Rule", implName := "lambda$takes$1", implDesc := ({ parameters := [(Jvm.ClassFile.FieldType.object "java/lang/StringBuilder"), (Jvm.ClassFile.FieldType.object "BatchRenamer$Reading")], returnType := (Option.none : Option Jvm.ClassFile.FieldType) } : Jvm.ClassFile.MethodDescriptor), implItf := false, inst := ({ parameters := [(Jvm.ClassFile.FieldType.object "java/lang/StringBuilder"), (Jvm.ClassFile.FieldType.object "BatchRenamer$Reading")], returnType := (Option.none : Option Jvm.ClassFile.FieldType) } : Jvm.ClassFile.MethodDescriptor) } : Jvm.Lambda.Shape)
def ja_sh32 : Jvm.Lambda.Shape := ({ iface := "BatchRenamer$Piece", name := "write", sam := ({ parameters := [(Jvm.ClassFile.FieldType.object "java/lang/StringBuilder"), (Jvm.ClassFile.FieldType.object "BatchRenamer$Reading")], returnType := (Option.none : Option Jvm.ClassFile.FieldType) } : Jvm.ClassFile.MethodDescriptor), captured := [Jvm.ClassFile.FieldType.int], kind := 6, implClass := "BatchRenamer$Rule", implName := "lambda$takes$2", implDesc := ({ parameters := [Jvm.ClassFile.FieldType.int, (Jvm.ClassFile.FieldType.object "java/lang/StringBuilder"), (Jvm.ClassFile.FieldType.object "BatchRenamer$Reading")], returnType := (Option.none : Option Jvm.ClassFile.FieldType) } : Jvm.ClassFile.MethodDescriptor), implItf := false, inst := ({ parameters := [(Jvm.ClassFile.FieldType.object "java/lang/StringBuilder"), (Jvm.ClassFile.FieldType.object "BatchRenamer$Reading")], returnType := (Option.none : Option Jvm.ClassFile.FieldType) } : Jvm.ClassFile.MethodDescriptor) } : Jvm.Lambda.Shape)
def ja_sh33 : Jvm.Lambda.Shape := ({ iface := "BatchRenamer$Question", name := "isSo", sam := ({ parameters := [Jvm.ClassFile.FieldType.int], returnType := (Option.some Jvm.ClassFile.FieldType.boolean) } : Jvm.ClassFile.MethodDescriptor), captured := [(Jvm.ClassFile.FieldType.object "BatchRenamer"), (Jvm.ClassFile.FieldType.object "java/lang/String")], kind := 5, implClass := "BatchRenamer", implName := "lambda$rank$0", implDesc := ({ parameters := [(Jvm.ClassFile.FieldType.object "java/lang/String"), Jvm.ClassFile.FieldType.int], returnType := (Option.some Jvm.ClassFile.FieldType.boolean) } : Jvm.ClassFile.MethodDescriptor), implItf := false, inst := ({ parameters := [Jvm.ClassFile.FieldType.int], returnType := (Option.some Jvm.ClassFile.FieldType.boolean) } : Jvm.ClassFile.MethodDescriptor) } : Jvm.Lambda.Shape)
def ja_sh34 : Jvm.Lambda.Shape := ({ iface := "BatchRenamer$Question", name := "isSo", sam := ({ parameters := [Jvm.ClassFile.FieldType.int], returnType := (Option.some Jvm.ClassFile.FieldType.boolean) } : Jvm.ClassFile.MethodDescriptor), captured := [(Jvm.ClassFile.FieldType.object "BatchRenamer"), Jvm.ClassFile.FieldType.int], kind := 5, implClass := "BatchRenamer", implName := "lambda$filesOf$1", implDesc := ({ parameters := [Jvm.ClassFile.FieldType.int, Jvm.ClassFile.FieldType.int], returnType := (Option.some Jvm.ClassFile.FieldType.boolean) } : Jvm.ClassFile.MethodDescriptor), implItf := false, inst := ({ parameters := [Jvm.ClassFile.FieldType.int], returnType := (Option.some Jvm.ClassFile.FieldType.boolean) } : Jvm.ClassFile.MethodDescriptor) } : Jvm.Lambda.Shape)
def ja_sh35 : Jvm.Lambda.Shape := ({ iface := "BatchRenamer$Question", name := "isSo", sam := ({ parameters := [Jvm.ClassFile.FieldType.int], returnType := (Option.some Jvm.ClassFile.FieldType.boolean) } : Jvm.ClassFile.MethodDescriptor), captured := [(Jvm.ClassFile.FieldType.object "BatchRenamer$Outlook"), Jvm.ClassFile.FieldType.int], kind := 6, implClass := "BatchRenamer", implName := "lambda$withStatus$2", implDesc := ({ parameters := [(Jvm.ClassFile.FieldType.object "BatchRenamer$Outlook"), Jvm.ClassFile.FieldType.int, Jvm.ClassFile.FieldType.int], returnType := (Option.some Jvm.ClassFile.FieldType.boolean) } : Jvm.ClassFile.MethodDescriptor), implItf := false, inst := ({ parameters := [Jvm.ClassFile.FieldType.int], returnType := (Option.some Jvm.ClassFile.FieldType.boolean) } : Jvm.ClassFile.MethodDescriptor) } : Jvm.Lambda.Shape)
def ja_sh36 : Jvm.Lambda.Shape := ({ iface := "BatchRenamer$Question", name := "isSo", sam := ({ parameters := [Jvm.ClassFile.FieldType.int], returnType := (Option.some Jvm.ClassFile.FieldType.boolean) } : Jvm.ClassFile.MethodDescriptor), captured := [(Jvm.ClassFile.FieldType.object "BatchRenamer"), Jvm.ClassFile.FieldType.int, (Jvm.ClassFile.FieldType.object "BatchRenamer$Outlook")], kind := 5, implClass := "BatchRenamer", implName := "lambda$owner$3", implDesc := ({ parameters := [Jvm.ClassFile.FieldType.int, (Jvm.ClassFile.FieldType.object "BatchRenamer$Outlook"), Jvm.ClassFile.FieldType.int], returnType := (Option.some Jvm.ClassFile.FieldType.boolean) } : Jvm.ClassFile.MethodDescriptor), implItf := false, inst := ({ parameters := [Jvm.ClassFile.FieldType.int], returnType := (Option.some Jvm.ClassFile.FieldType.boolean) } : Jvm.ClassFile.MethodDescriptor) } : Jvm.Lambda.Shape)
def ja_sh37 : Jvm.Lambda.Shape := ({ iface := "BatchRenamer$Question", name := "isSo", sam := ({ parameters := [Jvm.ClassFile.FieldType.int], returnType := (Option.some Jvm.ClassFile.FieldType.boolean) } : Jvm.ClassFile.MethodDescriptor), captured := [Jvm.ClassFile.FieldType.int, (Jvm.ClassFile.FieldType.object "BatchRenamer$Outlook")], kind := 6, implClass := "BatchRenamer", implName := "lambda$rival$4", implDesc := ({ parameters := [Jvm.ClassFile.FieldType.int, (Jvm.ClassFile.FieldType.object "BatchRenamer$Outlook"), Jvm.ClassFile.FieldType.int], returnType := (Option.some Jvm.ClassFile.FieldType.boolean) } : Jvm.ClassFile.MethodDescriptor), implItf := false, inst := ({ parameters := [Jvm.ClassFile.FieldType.int], returnType := (Option.some Jvm.ClassFile.FieldType.boolean) } : Jvm.ClassFile.MethodDescriptor) } : Jvm.Lambda.Shape)
def ja_lams : List (MethodName × Nat × Nat × Lambda.Shape × Nat) := [(({ cls := "BatchRenamer$Rule", name := "takes", desc := "(Ljava/lang/String;)Z" } : Jvm.MethodName), 33, 45, ja_sh30, 30), (({ cls := "BatchRenamer$Rule", name := "takes", desc := "(C)Z" } : Jvm.MethodName), 7, 56, ja_sh31, 31), (({ cls := "BatchRenamer$Rule", name := "takes", desc := "(C)Z" } : Jvm.MethodName), 42, 63, ja_sh32, 32), (({ cls := "BatchRenamer", name := "rank", desc := "(I)I" } : Jvm.MethodName), 12, 172, ja_sh33, 33), (({ cls := "BatchRenamer", name := "filesOf", desc := "(I)I" } : Jvm.MethodName), 9, 220, ja_sh34, 34), (({ cls := "BatchRenamer", name := "withStatus", desc := "(I)I" } : Jvm.MethodName), 8, 242, ja_sh35, 35), (({ cls := "BatchRenamer", name := "owner", desc := "(I)I" } : Jvm.MethodName), 10, 245, ja_sh36, 36), (({ cls := "BatchRenamer", name := "rival", desc := "(I)I" } : Jvm.MethodName), 9, 251, ja_sh37, 37)]
def jr_Ls (D : va_G) (K : Nat → Value) (U : State) (q : MethodName × Nat × Nat × Lambda.Shape × Nat) : Prop :=
  ∃ (m : MethodId) (k : Class) (cf : ClassFile) (i0 p0 : Nat) (l : Linked), U.methodNamed? q.1 = some m ∧ U.vm.classes[m.cls]? = some k ∧ k.cf = some cf ∧ Lambda.shapeOf? cf q.2.2.1 = some q.2.2.2.1 ∧
    (k.callSites.find? fun y => y.1 == m.idx && y.2.1 == q.2.1) = some (i0, p0, l) ∧ Lambda.isMade { classPath := fun _ => none } U.vm m.cls q.2.2.2.1 (D.1 q.2.2.2.2) = true ∧ U.lambdaCallable q.2.2.2.1 (D.1 q.2.2.2.2) = true ∧
    ((∃ a, l = .constant a ∧ K 30 = .ref a ∧ q.2.2.2.1.captured = []) ∨ (l = .makes (D.1 q.2.2.2.2) ∧ q.2.2.2.1.captured ≠ []))
def jr_Lm (D : va_G) (K : Nat → Value) (U : State) : Prop := ∀ q ∈ ja_lams, jr_Ls D K U q
theorem jr_Lm.moved {D : va_G} {K : Nat → Value} {s U : State} (hW : s.WarmedH U.vm) (h : jr_Lm D K s) : jr_Lm D K U := by
  intro q hq
  obtain ⟨m, kc, cf, i0, p0, l, hm, hk, hcf, hsh, hfind, hmade, hcall, hl⟩ := h q hq
  have hcall' : U.lambdaCallable q.2.2.2.1 (D.1 q.2.2.2.2) = true := by
    have hA := hW.alike
    simp only [State.lambdaCallable, hA.findClass, hA.assignable, hA.superclasses, hA.declaredIn] at hcall ⊢
    exact hcall
  obtain ⟨kc', hk', he⟩ := hW.alike.2.2 _ _ hk
  have hm' : U.methodNamed? q.1 = some m := by
    have := State.methodNamed?_setVm (s := s) hW.alike q.1
    rw [hm] at this
    exact this
  exact ⟨m, kc', cf, i0, p0, l, hm', hk', by rw [he]; exact hcf, hsh, by rw [he]; exact hfind, Lambda.isMade_warmer hW hmade, hcall', hl⟩
theorem jr_Lm.any {D : va_G} {dA : Nat → ClassId} {K : Nat → Value} {s : State} {h : ja_H} {H : Heap} {v : Nat} (hm : jr_Lm D K s) (hH : jr_H D dA h H) (hk : 30 ≤ ja_kd (ja_g h v) ∧ ja_kd (ja_g h v) ≤ 32) : va_Any "BatchRenamer$Piece" s H v := by
  cases hg : ja_g h v with
  | none => rw [hg] at hk; exact absurd hk.2 (by decide)
  | some c0 =>
    rw [hg] at hk
    cases c0 with
    | inl x => obtain ⟨t, x⟩ := x; have hk : 30 ≤ 100 + t ∧ 100 + t ≤ 32 := hk; omega
    | inr x =>
      obtain ⟨ci, fs⟩ := x
      have hk : 30 ≤ ci ∧ ci ≤ 32 := hk
      obtain ⟨cell, g1, g2, g3, -⟩ := (hH.2 _ _ hg).1
      have key : ∃ q ∈ ja_lams, q.2.2.2.1.iface = "BatchRenamer$Piece" ∧ q.2.2.2.2 = ci := by
        rcases (show ci = 30 ∨ ci = 31 ∨ ci = 32 by omega) with rfl | rfl | rfl
        · exact ⟨_, List.mem_of_getElem? (i := 0) rfl, rfl, rfl⟩
        · exact ⟨_, List.mem_of_getElem? (i := 1) rfl, rfl, rfl⟩
        · exact ⟨_, List.mem_of_getElem? (i := 2) rfl, rfl, rfl⟩
      obtain ⟨q, hq, hi, rfl⟩ := key
      obtain ⟨m, kc, cf, i0, p0, l, -, -, -, -, -, hmade, hcall, -⟩ := hm q hq
      obtain ⟨i, h1, h2, -⟩ := State.lambdaCallable_spec hcall
      obtain ⟨dk, k, ok, tk, file, cf2, object, iface, t, lay, methods, target, found, -, hkc, -⟩ := Lambda.isMade_spec hmade
      rw [hi] at h1
      refine ⟨cell, g1, by rw [g3]; rfl, ⟨k, by rw [g2]; exact hkc⟩, fun comp hc => ?_⟩
      cases Option.some.inj (h1.symm.trans hc)
      rw [g2]
      exact h2
def jr_E (D : va_G) (dA : Nat → ClassId) (lo : Nat) (K : Nat → Value) (U : State) (H : Heap) : Prop :=
  va_K D ja_cls (ja_tys dA) U ∧ (∀ w ∈ ja_nwl, va_Nw w U) ∧ (∀ q ∈ ja_strs, ∃ a, K q.2.2.2 = .ref a ∧ vk_R q.1 q.2.1 q.2.2.1 a U) ∧
  (∀ q ∈ ja_stas, va_Z q.1 q.2.1 q.2.2.1 (K q.2.2.2) (ja_A lo) U H) ∧ va_Z "java/lang/String" "COMPACT_STRINGS" "Z" (.int 1) (ja_A lo) U H ∧
  (∀ q ∈ ja_fws, va_Fw q.1 q.2.1 q.2.2 U) ∧ (∀ q ∈ ja_ncs, va_Nc q.1 q.2 U) ∧ (va_AO "java/lang/Object" U ∧ va_AO "java/lang/String" U ∧ va_AO "BatchRenamer$Piece" U) ∧
  (∃ mi, K 0 = .ref mi ∧ va_Mi "[Ljava/lang/Object;" mi U) ∧ va_Dc U ∧ vx_Zq Bundle.tN "UNASSIGNED_STACK" Bundle.steD (ja_A lo) U H ∧ vx_Zq Bundle.tN "SUPPRESSED_SENTINEL" Bundle.listD (ja_A lo) U H ∧ jr_Lm D K U
theorem ja_Nw.moved {s U : State} {w : Cond} (hW : s.WarmedH U.vm) (g : ja_nwp w = true) (h : va_Nw w s) : va_Nw w U := by
  cases w <;> first
    | exact va_Nw.warmF hW h
    | exact va_Nw.warmM hW h
    | exact va_Nw.warmC hW h
    | exact va_Nw.warmD hW h
    | cases g
theorem jr_E.moved {D : va_G} {dA : Nat → ClassId} {lo : Nat} {K : Nat → Value} {s U : State} {H H1 : Heap} (hW : s.WarmedH U.vm) (hq : ∀ a : Nat, a < H.size → ¬ ja_A lo a → H1[a]? = H[a]?) (h : jr_E D dA lo K s H) : jr_E D dA lo K U H1 := by
  obtain ⟨h1, h2, h3, h4, h5, h6, h7, ⟨h8, h9, h10⟩, ⟨mi, h11, h12⟩, h13, h14, h15, h16⟩ := h
  have hA := hW.alike
  refine ⟨va_K.moved hA h1, fun w hw => ja_Nw.moved hW (List.mem_filter.mp hw).2 (h2 w hw), fun q hq => ?_, fun q hm => ((h4 q hm).moved hA).kept hq, (h5.moved hA).kept hq, fun q hm => ?_, fun q hm => (h7 q hm).moved hA, ⟨va_AO.moved hA h8, va_AO.moved hA h9, va_AO.moved hA h10⟩, ⟨mi, h11, va_Mi.moved hA h12⟩, ?_, (vx_Zq.moved hA h14).kept hq, (vx_Zq.moved hA h15).kept hq, h16.moved hW⟩
  · obtain ⟨a, e1, e2⟩ := h3 q hq
    exact ⟨a, e1, vk_R.warm hW e2⟩
  · refine va_Fw.moved ?_ hA (h6 q hm)
    simp only [ja_fws, List.mem_cons, List.not_mem_nil, or_false] at hm
    rcases hm with rfl | rfl | rfl | rfl | rfl <;> exact ⟨by decide +kernel, by decide +kernel⟩
  · exact va_Dc.of (A := #[]) (va_Nw.use rfl (va_Nw.warmD hW (va_Nw.of (A := #[]) rfl (va_Dc.use (A := #[]) h13))))
/-- a method's own facts -/
def jr_C (p : Program) (l : Launch) (s : State) (m : MethodId) (args : Array Value) (meth : Method) (c : Code) (M : Nat) (D : va_G) (dA : Nat → ClassId) (lo : Nat) (K : Nat → Value) : Prop :=
  p.tables.exec = Jvm.exec ∧ c.code = ja_by M ∧ c.maxLocals = ja_mx M ∧ s.vm.findClass (ja_own (ja_ow M)) = some m.cls ∧ (∀ w ∈ lw_all, w.before args s = true) ∧ (ja_ini M = 1 → meth.name = "<init>") ∧ jr_E D dA lo K s s.heap ∧ l.stackTraces = false ∧ lo ≤ s.heap.size ∧ meth.locks = false
/-- the room that d calls ask -/
def ja_rf (d : Nat) : Nat := 2 * d + 20
def ja_rl (d : Nat) : Nat := 160 * d + 4000
def jr_R (R : Room) (cells slots : Nat) (h h' : ja_H) : Prop := cells + (ja_sz h' - ja_sz h) ≤ R.cells ∧ slots + (ja_sl h' - ja_sl h) ≤ R.slots ∧ ja_rf 0 ≤ R.frames ∧ ja_rl 0 ≤ R.locals
def jr_KK (p : Program) (l : Launch) (e : Env) (R : Room) (s : State) (m : MethodId) (args : Array Value) (below : List Frame) (meth : Method) (c : Code) (Q : State → Prop) (M : Nat) (D : va_G) (dA : Nat → ClassId) (lo cells slots : Nat) (h h' : ja_H) (pc : Nat) (L : ja_L) (st : List Value) : Prop :=
  ∀ (ls : Array Slot) (H : Heap) (locs : List Loc), jr_L ls (ja_mx M) L → jr_H D dA h' H → va_S (ja_A lo) s.heap H locs → W p l e R s m args below meth c H locs (cells + (ja_sz h' - ja_sz h)) (slots + (ja_sl h' - ja_sl h)) Q (F0 m pc ls st)
theorem jr_KK.same {p : Program} {l : Launch} {e : Env} {R : Room} {s : State} {m : MethodId} {args : Array Value} {below : List Frame} {meth : Method} {c : Code} {Q : State → Prop} {M : Nat} {D : va_G} {dA : Nat → ClassId} {lo cells slots : Nat} {h : ja_H} {pc : Nat} {L : ja_L} {st : List Value} {ls : Array Slot} {H : Heap} {locs : List Loc}
    (kk : jr_KK p l e R s m args below meth c Q M D dA lo cells slots h h pc L st) (hL : jr_L ls (ja_mx M) L) (hH : jr_H D dA h H) (hS : va_S (ja_A lo) s.heap H locs) : W p l e R s m args below meth c H locs cells slots Q (F0 m pc ls st) := by
  have h1 := kk ls H locs hL hH hS
  rw [Nat.sub_self, Nat.sub_self] at h1
  exact h1
theorem jr_KK.upd {p : Program} {l : Launch} {e : Env} {R : Room} {s : State} {m : MethodId} {args : Array Value} {below : List Frame} {meth : Method} {c : Code} {Q : State → Prop} {M : Nat} {D : va_G} {dA : Nat → ClassId} {lo cells slots : Nat} {h : ja_H} {pc a : Nat} {x : ja_C} {L : ja_L} {st : List Value} {ls : Array Slot} {H : Heap}
    (kk : jr_KK p l e R s m args below meth c Q M D dA lo cells slots h (ja_u h a x) pc L st) (hL : jr_L ls (ja_mx M) L) (hH : jr_H D dA h H) {H1 : Heap} {locs1 : List Loc} (z : H1.size = H.size) (oq : ∀ q : Nat, q ≠ a → H1[q]? = H[q]?) (hat : jr_at D dA a x H1) (hkd : ja_kd (some x) = ja_kd (ja_g h a)) (hw : jr_wf h x) (hS : va_S (ja_A lo) s.heap H1 locs1) : W p l e R s m args below meth c H1 locs1 cells slots Q (F0 m pc ls st) := by
  have h1 := kk ls H1 locs1 hL (hH.u z oq hat hkd hw) hS
  have e1 : ja_sz (ja_u h a x) - ja_sz h = 0 := Nat.sub_self _
  have e2 : ja_sl (ja_u h a x) - ja_sl h = 0 := Nat.sub_self _
  rw [e1, e2] at h1
  exact h1
theorem jr_KK.new {p : Program} {l : Launch} {e : Env} {R : Room} {s : State} {m : MethodId} {args : Array Value} {below : List Frame} {meth : Method} {c : Code} {Q : State → Prop} {M : Nat} {D : va_G} {dA : Nat → ClassId} {lo cells slots : Nat} {h : ja_H} {pc k : Nat} {x : ja_C} {L : ja_L} {st : List Value} {ls : Array Slot} {H : Heap} {locs : List Loc}
    (kk : jr_KK p l e R s m args below meth c Q M D dA lo cells slots h (ja_n h x k) pc L st) (hL : jr_L ls (ja_mx M) L) (hH : jr_H D dA h H) {H1 : Heap} (z : H1.size = H.size + 1) (oq : ∀ q : Nat, q < H.size → H1[q]? = H[q]?) (hat : jr_at D dA H.size x H1) (hw : jr_wf h x) (hS : va_S (ja_A lo) s.heap H1 locs) : W p l e R s m args below meth c H1 locs (cells + 1) (slots + k) Q (F0 m pc ls st) := by
  have h1 := kk ls H1 locs hL (hH.n z oq (by rw [← hH.1]; exact hat) hw) hS
  have e1 : ja_sz (ja_n h x k) - ja_sz h = 1 := Nat.add_sub_cancel_left _ _
  have e2 : ja_sl (ja_n h x k) - ja_sl h = k := Nat.add_sub_cancel_left _ _
  rw [e1, e2] at h1
  exact h1
theorem jr_R.new {R : Room} {cells slots : Nat} {h : ja_H} {x : ja_C} {k : Nat} (hR : jr_R R cells slots h (ja_n h x k)) : cells + 1 ≤ R.cells ∧ slots + k ≤ R.slots := by
  have e1 : ja_sz (ja_n h x k) - ja_sz h = 1 := Nat.add_sub_cancel_left _ _
  have e2 : ja_sl (ja_n h x k) - ja_sl h = k := Nat.add_sub_cancel_left _ _
  have h1 := hR.1
  have h2 := hR.2.1
  rw [e1] at h1
  rw [e2] at h2
  exact ⟨h1, h2⟩
theorem jx_nx {p p' : Nat} {L L' : ja_L} {st st' : List Value} {h h' : ja_H} (q : ja_nx p L st h = some (.inl (p', L', st', h'))) : p = p' ∧ L = L' ∧ st = st' ∧ h = h' := by
  simp only [ja_nx, Option.some.injEq, Sum.inl.injEq, Prod.mk.injEq] at q
  exact q
theorem jx_jp {t : Option Nat} {p' : Nat} {L L' : ja_L} {st st' : List Value} {h h' : ja_H} (q : ja_jp t L st h = some (.inl (p', L', st', h'))) : t = some p' ∧ L = L' ∧ st = st' ∧ h = h' := by
  cases t with
  | none => cases q
  | some t =>
    have q1 := jx_nx q
    exact ⟨by rw [q1.1], q1.2⟩
theorem ja_tg_ok {pc t : Nat} {off : Int} (h : ja_tg pc off = some t) : (pc : Int) + off = (t : Int) := by
  unfold ja_tg at h
  split at h
  · have := Option.some.inj h
    omega
  · cases h
/-! what the tables' rows are good for -/
def ja_kdt : Nat → FieldType → Bool
  | 0, .int => true
  | 1, .object _ => true
  | 1, .array _ => true
  | 2, .boolean => true
  | 3, .byte => true
  | 4, .long => true
  | 5, .char => true
  | _, _ => false
theorem jw_byteOk : ∀ x : Int32, x.toInt8.toInt32 = x → fits .byte (.int x) = true := by
  intro x h
  show ((-128 ≤ x && x ≤ 127) : Bool) = true
  rw [← h]
  have h1 := x.toInt8.le_toInt
  have h2 := x.toInt8.toInt_le
  simp only [Bool.and_eq_true, decide_eq_true_eq, Int32.le_iff_toInt_le, Int8.toInt_toInt32]
  exact ⟨h1, h2⟩
theorem jw_charOk : ∀ x : Int32, (x.toUInt32 % 65536).toInt32 = x → fits .char (.int x) = true ∧ narrow .char (.int x) = .int x := by
  intro x h
  rw [← h]
  exact ⟨pk_fc x, pk_nc x⟩
theorem ja_fk_2 {x : Int32} (hv : ja_fk 2 (.int x) = true) : narrow .boolean (.int x) = .int x ∧ fits .boolean (.int x) = true := by
  have hv : x = 0 ∨ x = 1 := by simpa [ja_fk, nI_0, show nI 1 = 1 from rfl] using hv
  rcases hv with rfl | rfl <;> exact ⟨rfl, rfl⟩
theorem ja_fk_3 {x : Int32} (hv : ja_fk 3 (.int x) = true) : narrow .byte (.int x) = .int x ∧ fits .byte (.int x) = true := by
  have hv : x.toInt8.toInt32 = x := by simpa [ja_fk] using hv
  exact ⟨by rw [jw_narB, hv], jw_byteOk x hv⟩
theorem ja_fk_5 {x : Int32} (hv : ja_fk 5 (.int x) = true) : narrow .char (.int x) = .int x ∧ fits .char (.int x) = true := by
  have hv : (x.toUInt32 % 65536).toInt32 = x := by simpa [ja_fk] using hv
  exact ⟨(jw_charOk x hv).2, (jw_charOk x hv).1⟩
theorem ja_fk_ok {kd : Nat} {ty : FieldType} {v : Value} (ht : ja_kdt kd ty = true) (hv : ja_fk kd v = true) : narrow ty v = v ∧ fits ty v = true := by
  rcases kd with _ | _ | _ | _ | _ | _ | kd <;> cases ty <;> first
    | (cases ht; done)
    | (cases v <;> first
      | (cases hv; done)
      | exact ⟨rfl, rfl⟩
      | exact ja_fk_2 hv
      | exact ja_fk_3 hv
      | exact ja_fk_5 hv)
def jv_k (ci : Nat) (C : String) (T : u_T) (N : Nat) (ty : Nat → FieldType) : Prop := ja_cls[ci]? = some (C, T, N) ∧ ja_nf ci = N ∧ (∀ w ∈ u_ws C T N, w ∈ lw_all) ∧ (∀ k, k < N → parseFieldDescriptor (T k).2.2.1 = some (ty k)) ∧ (∀ a, a < N → ∀ b, b < N → a ≠ b → (T a).2.1 ≠ (T b).2.1)
def jv_f (o i : Nat) (F : Nat × Nat × Nat × Nat) : Prop := ∃ (C : String) (T : u_T) (N : Nat) (ty : Nat → FieldType) (ref host : String), jv_k F.1 C T N ty ∧ F.2.1 < N ∧ ja_kdt F.2.2.1 (ty F.2.1) = true ∧
  ((F.2.2.2 = 0 ∧ (T F.2.1).2.2.2 = false ∧ Cond.fieldLink (ja_own o) i ref (T F.2.1).2.1 (T F.2.1).2.2.1 ∈ lw_all) ∨ (F.2.2.2 = 1 ∧ (T F.2.1).2.2.2 = true ∧ (T F.2.1).1 = ja_own o ∧ Cond.fieldLink (ja_own o) i ref (T F.2.1).2.1 (T F.2.1).2.2.1 ∈ lw_all) ∨
   (F.2.2.2 = 0 ∧ (T F.2.1).2.2.2 = false ∧ Cond.fieldLinkNest (ja_own o) i ref (T F.2.1).2.1 (T F.2.1).2.2.1 host ∈ ja_nwl) ∨ (F.2.2.2 = 2 ∧ Cond.fieldLinkNest (ja_own o) i ref (T F.2.1).2.1 (T F.2.1).2.2.1 host ∈ ja_nwl)) ∧
  (ref = (T F.2.1).1 ∨ Cond.sameField ref (T F.2.1).1 (T F.2.1).2.1 (T F.2.1).2.2.1 ∈ lw_all)
def jv_c (o i : Nat) (G : Value ⊕ Nat) : Prop := match G with
  | .inl (.int v) => Cond.constant (ja_own o) i v ∈ lw_all
  | .inl (.long v) => Cond.constantLong (ja_own o) i v ∈ lw_all
  | .inl _ => False
  | .inr 0 => Cond.classLink (ja_own o) i "[Ljava/lang/Object;" ∈ lw_all
  | .inr (j + 1) => ∃ tx, (ja_own o, i, tx, j + 1) ∈ ja_strs
def jv_g (o i : Nat) (G : Value ⊕ Nat) : Prop := match G with
  | .inl (.int v) => v = nI 1 ∧ Cond.fieldLink (ja_own o) i "java/lang/String" "COMPACT_STRINGS" "Z" ∈ lw_all
  | .inl _ => False
  | .inr j => ∃ C n d, (C, n, d, j) ∈ ja_stas ∧ Cond.fieldLink (ja_own o) i C n d ∈ lw_all
def jv_n (o i : Nat) (F : Nat × List Value × Nat) : Prop := ∃ (C : String) (T : u_T) (ty : Nat → FieldType), jv_k F.1 C T F.2.2 ty ∧ Cond.classLink (ja_own o) i C ∈ lw_all ∧ Cond.instantiable C F.2.2 ∈ lw_all ∧ Cond.initialized C ∈ lw_all ∧ (∀ j, j < F.2.2 → defaultValue (ty j) = vp_V F.2.1 j) ∧ F.2.1.length = F.2.2
def jv_a (o i t : Nat) : Prop := ∃ C, Cond.classLink (ja_own o) i C ∈ lw_all ∧ ((t = 5 ∧ C = "java/lang/Object") ∨ (t = 6 ∧ C = "java/lang/String") ∨ (t = 7 ∧ C = "BatchRenamer$Piece"))
/-- a cast that goes through: to the object's own class, or an array's -/
def jv_t (o i : Nat) (ks : List Nat) : Prop := ∀ k ∈ ks, ∃ nm, Cond.classLink (ja_own o) i nm ∈ lw_all ∧ ((∃ T N, ja_cls[k]? = some (nm, T, N)) ∨ (k = 100 ∧ nm = "[I") ∨ (k = 101 ∧ nm = "[B") ∨ (k = 105 ∧ nm = "[Ljava/lang/Object;") ∨ (k = 1 ∧ nm = "BatchRenamer$Copied"))
def jv_s (o i : Nat) (V : Nat × Nat × Nat × List (Nat × Nat)) : Prop := V.1 = 1 → Cond.methodLink (ja_own o) i arraycopyName ∈ lw_all
def jv_p (o i : Nat) (V : Nat × Nat × Nat × List (Nat × Nat)) : Prop := V.1 = 2 → Cond.methodLink (ja_own o) i Lib.objectInit ∈ lw_all
def ja_cln (ad : String) : MethodName := ⟨ad, "clone", "()Ljava/lang/Object;"⟩
def ja_gcl : MethodName := ⟨"java/lang/Object", "getClass", "()Ljava/lang/Class;"⟩
def jv_v (o i : Nat) (V : Nat × Nat × Nat × List (Nat × Nat)) : Prop := (V.1 = 3 → ∃ ad, ((V.2.1 = 1 ∧ ad = "[B") ∨ (V.2.1 = 0 ∧ ad = "[I")) ∧ Cond.methodLink (ja_own o) i (ja_cln ad) ∈ lw_all) ∧ (V.1 = 4 → Cond.methodLink (ja_own o) i ja_gcl ∈ lw_all)
/-- an exception made by new, dup, its constructor -/
def jv_x (M pc ci : Nat) : Prop := ∃ (ik ic : Nat) (cls : String) (names : List String), decode (ja_by M) pc = .ok (.new ik, 3) ∧ decode (ja_by M) (pc + 3) = .ok (.dup, 1) ∧ decode (ja_by M) (pc + 4) = .ok (.invokespecial ic, 3) ∧ ja_cls[ci]? = some (cls, ja_noT, 0) ∧ ja_nf ci = 0 ∧ ci < 38 ∧ names.length ≤ 5 ∧ Bundle.fit cls = true ∧ (∀ n ∈ names, Bundle.fit n = true) ∧
  Cond.classLink (ja_own (ja_ow M)) ik cls ∈ lw_all ∧ Cond.initialized cls ∈ lw_all ∧ (∀ w ∈ vx_at0 (ja_own (ja_ow M)) ic cls names, w ∈ lw_all ∨ w ∈ ja_nwl) ∧ (∀ w ∈ Cond.classLink (ja_own (ja_ow M)) ik cls :: Cond.initialized cls :: vx_at0 (ja_own (ja_ow M)) ic cls names, vx_ot w = true)
theorem ja_as_mem {α : Type} {b : α} {k : Nat} : ∀ {l : List (Nat × α)}, ja_as l k = some b → (k, b) ∈ l
  | [], h => by cases h
  | (a, c) :: l, h => by
    unfold ja_as at h
    split at h
    · rename_i e; cases h; rw [e]; exact List.mem_cons_self
    · exact List.mem_cons_of_mem _ (ja_as_mem h)
theorem ja_ff_mem {b k : Nat} : ∀ {l : List (Nat × Nat)}, ja_ff l k = some b → (k, b) ∈ l
  | [], h => by cases h
  | (a, c) :: l, h => by
    unfold ja_ff at h
    split at h
    · rename_i e; cases h; rw [e]; exact List.mem_cons_self
    · exact List.mem_cons_of_mem _ (ja_ff_mem h)
theorem ja_xf_mem {c M pc : Nat} : ∀ {l : List (Nat × Nat × Nat)}, ja_xf l M pc = some c → (M, pc, c) ∈ l
  | [], h => by cases h
  | (a, b, d) :: l, h => by
    unfold ja_xf at h
    split at h
    · rename_i e; cases h; rw [e.1, e.2]; exact List.mem_cons_self
    · exact List.mem_cons_of_mem _ (ja_xf_mem h)
