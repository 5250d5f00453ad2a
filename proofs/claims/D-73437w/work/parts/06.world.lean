/-! LAYER 0: the functional world, what it says of the machine's heap, the judgements xB (from a place of a method) and xCt (a method's contract) -/
abbrev xV : Type := Int32 ⊕ Int64 ⊕ Option Nat
abbrev xC : Type := (Nat → Int32) ⊕ (Nat → Int64) ⊕ (Nat → Option Nat)
abbrev xE : Type := (Nat × Nat × xC) ⊕ (Nat × (Nat → xV)) ⊕ (Nat × List xV)
abbrev xS : Type := (Nat → Nat → Int32) × (Nat → Nat → Int64) × (Nat → Nat → Option Nat)
abbrev xD : Type := (Nat × List (Nat × Nat)) ⊕ (Nat × Nat × Nat × Nat × Nat)
abbrev xL : Type := Nat → Option xD
abbrev xW : Type := xS × xS × (Nat → Option xE) × Nat × Nat
abbrev xG : Type := va_G × (Nat → ClassId) × (Nat → ClassId) × (Nat → Nat) × Heap
def xad (g : xG) (k : Nat) : Nat := if k < 300 then g.2.2.2.1 k else g.2.2.2.2.size + (k - 300)
def xvv (g : xG) (v : xV) : Value := match v with
  | .inl i => .int i
  | .inr (.inl j) => .long j
  | .inr (.inr o) => va_rf (o.map (xad g))
def xcon (g : xG) (c : xC) (j : Nat) : Value := match c with
  | .inl f => .int (f j)
  | .inr (.inl f) => .long (f j)
  | .inr (.inr f) => va_rf ((f j).map (xad g))
abbrev xcl : List vw_C := [(RX1, TX1, 34), (RX5, TX5, 35), (RX4, TX4, 3), (RX3, TX3, 8), (RX2, TX2, 6), (RJ5, TJ5, 4), (RJ16, TJ16, 3), (RJ7, TJ7, 3), (RJ6, TJ6, 3), (RJ18, TJ18, 1), (RJ8, TJ8, 2), (RJ23, TJ23, 5), (RJ15, TJ15, 6)]
def xty (t : Nat) : FieldType := match t with
  | 0 => .int
  | 1 => .byte
  | 2 => .long
  | 3 => .array .int
  | 4 => .object "UnimodularTables$Back"
  | 5 => .object "UnimodularTables$Growth"
  | 6 => .object "UnimodularTables$Turner"
  | 7 => .object "java/util/BitSet"
  | 8 => .object "java/lang/Object"
  | _ => .object "java/lang/Integer"
abbrev xtys (g : xG) : List (ClassId × FieldType) := (List.range 10).map (fun t => (g.2.1 t, xty t))
def xat (g : xG) (a : Nat) (e : xE) (H : Heap) : Prop := match e with
  | .inl x => H[a]? = some (arrV (g.2.1 x.1) x.2.1 (xcon g x.2.2))
  | .inr (.inl o) => ∃ r : vw_C, xcl[o.1]? = some r ∧ t_OB a (g.1.1 o.1) r.2.2 (g.1.2 o.1) H (fun k => xvv g (o.2 k))
  | .inr (.inr o) => H[a]? = some { cls := g.2.2.1 o.1, slots := (o.2.map (xvv g)).toArray, vm := .none }
/-- a static cell's content out of its store -/
def xsd (S : xS) (i : Nat) (d : xD) : xE := match d with
  | .inl o => .inr (.inl (o.1, fun k => match o.2[k]? with
      | some (0, _) => .inl (S.1 i k)
      | some (1, _) => .inr (.inl (S.2.1 i k))
      | some (2, _) => .inr (.inr (S.2.2 i k))
      | some (3, c) => .inr (.inr (some c))
      | _ => .inr (.inr none)))
  | .inr (t, n, kd, b, st) => .inl (t, n, match kd with
      | 0 => .inl (S.1 i)
      | 1 => .inr (.inl (S.2.1 i))
      | 2 => .inr (.inr (S.2.2 i))
      | _ => .inr (.inr (fun j => some (b + st * j))))
def xcell (L : xL) (w : xW) (k : Nat) : Option xE := match L k with
  | some d => some (if 380 ≤ k ∧ k < 405 then xsd w.1 (k - 380) d else xsd w.2.1 (k - 300) d)
  | none => w.2.2.1 k
def xSim (g : xG) (L : xL) (w : xW) (H : Heap) : Prop :=
  H.size = g.2.2.2.2.size + w.2.2.2.1 ∧ (∀ q, q < g.2.2.2.2.size → H[q]? = g.2.2.2.2[q]?) ∧ ∀ k e, xcell L w k = some e → 300 ≤ k ∧ xat g (xad g k) e H
/-- the constants: 0..255 the small Integers, 256.. Strings and their bytes -/
def xstr (i : Nat) : List Nat := match i with
  | 0 => [114, 99, 120, 121, 112, 116, 101]
  | 1 => [43, 45, 48, 48, 45, 47, 45, 43, 45, 48, 48, 47, 48, 45, 43, 45, 48, 47, 48, 48, 45, 43, 45, 47, 45, 48, 48, 45, 43]
  | 2 => [43, 43, 43, 43, 43, 47, 43, 43, 43, 48, 48, 47, 43, 48, 43, 43, 48, 47, 43, 48, 48, 43, 43, 47, 43, 43, 48, 48, 43]
  | 3 => [45, 48, 43]
  | 4 => [43, 45, 48, 48, 45, 45, 43, 45, 48, 48, 48, 45, 43, 45, 48, 48, 48, 45, 43, 45, 45, 48, 48, 45, 43]
  | _ => [43, 43, 43, 43, 43, 43, 43, 43, 48, 48, 43, 48, 43, 43, 48, 43, 48, 48, 43, 43, 43, 43, 48, 48, 43]
def xKc (k : Nat) : Option xE :=
  if k < 256 then some (.inr (.inl (9, fun _ => .inl (Int32.ofNat k - 128))))
  else if k < 268 then
    if k % 2 = 0 then some (.inr (.inl (10, fun j => if j = 0 then .inr (.inr (some (k + 1))) else .inl 0)))
    else some (.inl (1, (xstr ((k - 256) / 2)).length, .inl (fun j => Int32.ofNat ((xstr ((k - 256) / 2)).getD j 0))))
  else if 280 ≤ k ∧ k < 296 then some (.inr (.inr (k - 280, [])))
  else if k = 270 then some (.inl (9, 256, .inr (.inr (fun j => some j)))) else none
def xRd (L : xL) (w : xW) (a : Nat) (e : xE) : Prop := xcell L w a = some e ∨ xKc a = some e
def xstat : List (String × String × String × xV) := [("java/lang/String", "COMPACT_STRINGS", "Z", .inl 1), ("java/util/BitSet", "$assertionsDisabled", "Z", .inl 1), ("java/lang/Integer$IntegerCache", "high", "I", .inl 127), ("java/lang/Integer$IntegerCache", "cache", "[Ljava/lang/Integer;", .inr (.inr (some 270)))]
/-- statics of which a reference or null is all that is known -/
def xstatU : List (String × String × String) := [("jdk/internal/util/Preconditions", "SIOOBE_FORMATTER", "Ljava/util/function/BiFunction;"), ("java/lang/Throwable", "UNASSIGNED_STACK", "[Ljava/lang/StackTraceElement;"), ("java/lang/Throwable", "SUPPRESSED_SENTINEL", "Ljava/util/List;")]
/-- String constants: class, entry, text, code -/
def xlds : List (String × Nat × String × Nat) := [("UnimodularTables", 105, "+-00-/-+-00/0-+-0/00-+-/-00-+", 258), ("UnimodularTables", 115, "+++++/+++00/+0++0/+00++/++00+", 260), ("UnimodularTables", 181, "rcxypte", 256), ("UnimodularTablesModel", 116, "-0+", 262), ("UnimodularTablesModel", 131, "rcxypte", 256), ("UnimodularTablesModel", 300, "+-00--+-000-+-000-+--00-+", 264), ("UnimodularTablesModel", 302, "++++++++00+0++0+00++++00+", 266)]
/-- further facts of the tables that no list of words carries -/
def xnest : List Cond := [.methodLinkNest "UnimodularTables" 35 ⟨"UnimodularTables$Fault", "<init>", "()V"⟩ "UnimodularTables", .fieldLinkNest "UnimodularTables" 388 "UnimodularTables$Growth" "from" "[I" "UnimodularTables", .fieldLinkNest "UnimodularTables" 391 "UnimodularTables$Growth" "to" "[I" "UnimodularTables", .fieldLinkNest "UnimodularTables" 227 "UnimodularTables$Growth" "isLaid" "Z" "UnimodularTables", .fieldLinkNest "UnimodularTables" 386 "UnimodularTables$Growth" "of" "LUnimodularTables$Table;" "UnimodularTables", .fieldLinkNest "UnimodularTables" 17 "UnimodularTables$Table" "n" "I" "UnimodularTables", .fieldLinkNest "UnimodularTables$Growth" 61 "UnimodularTables$Table" "n" "I" "UnimodularTables", .fieldLinkNest "UnimodularTables" 9 "UnimodularTables$Table" "m" "I" "UnimodularTables", .fieldLinkNest "UnimodularTables$Growth" 96 "UnimodularTables$Table" "m" "I" "UnimodularTables", .fieldLinkNest "UnimodularTables" 13 "UnimodularTables$Table" "at" "[[I" "UnimodularTables", .fieldLinkNest "UnimodularTables$Growth" 92 "UnimodularTables$Table" "at" "[[I" "UnimodularTables", .methodLinkNest "UnimodularTables$Growth" 49 ⟨"UnimodularTables", "isTotal", "(LUnimodularTables$Table;)Z"⟩ "UnimodularTables", .methodLinkNest "UnimodularTables$Growth" 66 ⟨"UnimodularTables", "has", "(II)Z"⟩ "UnimodularTables"]
def xcast : List (String × String) := [("UnimodularTablesModel", "java/lang/Object"), ("UnimodularTables", "java/lang/Object"), ("UnimodularTables$Growth", "java/lang/Object"), ("UnimodularTables$Table", "java/lang/Object"), ("java/util/BitSet", "java/lang/Object"), ("java/util/ConcurrentModificationException", "java/lang/Object"), ("java/util/LinkedList$ListItr", "java/util/Iterator"), ("java/util/LinkedList$ListItr", "java/util/ListIterator"), ("java/util/LinkedList$ListItr", "java/lang/Object"), ("java/lang/Integer", "java/lang/Object"), ("java/lang/IllegalStateException", "java/lang/IllegalStateException"), ("java/lang/IllegalStateException", "java/lang/Object"), ("java/util/ArrayDeque", "java/lang/Object"), ("java/lang/Throwable", "java/lang/Object"), ("java/util/NoSuchElementException", "java/util/NoSuchElementException"), ("java/util/NoSuchElementException", "java/lang/Object"), ("java/lang/String", "java/lang/Object"), ("java/util/LinkedList", "java/util/List"), ("java/util/LinkedList", "java/lang/Object"), ("java/util/AbstractList$ListItr", "java/util/Iterator"), ("java/util/AbstractList$ListItr", "java/util/ListIterator"), ("java/util/AbstractList$ListItr", "java/lang/Object"), ("java/util/LinkedList$Node", "java/lang/Object"), ("java/lang/StringBuilder", "java/lang/Object"), ("UnimodularTables$Fault", "UnimodularTables$Fault"), ("UnimodularTables$Fault", "java/lang/Object"), ("[Ljava/util/BitSet;", "java/lang/Object"), ("[LUnimodularTables$Growth;", "java/lang/Object"), ("[LUnimodularTables$Back;", "java/lang/Object"), ("[LUnimodularTables$Turner;", "java/lang/Object"), ("UnimodularTables$Turner", "java/lang/Object"), ("[Ljava/lang/Object;", "java/lang/Object"), ("[B", "java/lang/Cloneable"), ("[B", "java/lang/Object"), ("[I", "java/lang/Object"), ("UnimodularTables$Back", "java/lang/Object"), ("[[I", "java/lang/Object"), ("[J", "java/lang/Cloneable"), ("[J", "java/lang/Object")]
def xover : List String := ["UnimodularTables$Back", "UnimodularTables$Growth", "java/util/BitSet", "java/lang/Object", "UnimodularTables$Turner"]
def xfaces : List (String × MethodName × MethodName) := [("java/util/LinkedList$ListItr", ⟨"java/util/Iterator", "hasNext", "()Z"⟩, ⟨"java/util/LinkedList$ListItr", "hasNext", "()Z"⟩), ("java/util/LinkedList$ListItr", ⟨"java/util/Iterator", "next", "()Ljava/lang/Object;"⟩, ⟨"java/util/LinkedList$ListItr", "next", "()Ljava/lang/Object;"⟩), ("java/util/LinkedList$ListItr", ⟨"java/util/ListIterator", "next", "()Ljava/lang/Object;"⟩, ⟨"java/util/LinkedList$ListItr", "next", "()Ljava/lang/Object;"⟩), ("java/util/LinkedList$ListItr", ⟨"java/util/Iterator", "remove", "()V"⟩, ⟨"java/util/LinkedList$ListItr", "remove", "()V"⟩), ("java/util/LinkedList$ListItr", ⟨"java/util/ListIterator", "previous", "()Ljava/lang/Object;"⟩, ⟨"java/util/LinkedList$ListItr", "previous", "()Ljava/lang/Object;"⟩), ("java/util/LinkedList$ListItr", ⟨"java/util/ListIterator", "set", "(Ljava/lang/Object;)V"⟩, ⟨"java/util/LinkedList$ListItr", "set", "(Ljava/lang/Object;)V"⟩), ("java/util/LinkedList", ⟨"java/util/List", "size", "()I"⟩, ⟨"java/util/LinkedList", "size", "()I"⟩), ("java/util/LinkedList", ⟨"java/util/List", "get", "(I)Ljava/lang/Object;"⟩, ⟨"java/util/LinkedList", "get", "(I)Ljava/lang/Object;"⟩), ("java/util/LinkedList", ⟨"java/util/List", "set", "(ILjava/lang/Object;)Ljava/lang/Object;"⟩, ⟨"java/util/LinkedList", "set", "(ILjava/lang/Object;)Ljava/lang/Object;"⟩), ("java/util/LinkedList", ⟨"java/util/List", "listIterator", "()Ljava/util/ListIterator;"⟩, ⟨"java/util/AbstractList", "listIterator", "()Ljava/util/ListIterator;"⟩), ("java/util/LinkedList", ⟨"java/util/List", "listIterator", "(I)Ljava/util/ListIterator;"⟩, ⟨"java/util/LinkedList", "listIterator", "(I)Ljava/util/ListIterator;"⟩)]
/-- a lambda's site is linked: to the class DL k; the one object (code 280 + k) or one at each run -/
def xSite (g : xG) (k : Nat) (s : State) : Prop := ∀ (x : MethodName) (pc index : Nat) (σ : Lambda.Shape), siteWords_1[k]? = some (.lambdaSite x pc index σ) →
  ∃ (m : MethodId) (kc : Class) (cf : ClassFile) (i0 p0 : Nat) (l : Linked), s.methodNamed? x = some m ∧ s.vm.classes[m.cls]? = some kc ∧ kc.cf = some cf ∧ Lambda.shapeOf? cf index = some σ ∧
    (kc.callSites.find? fun y => y.1 == m.idx && y.2.1 == pc) = some (i0, p0, l) ∧ Lambda.isMade { classPath := fun _ => none } s.vm m.cls σ (g.2.2.1 k) = true ∧ s.lambdaCallable σ (g.2.2.1 k) = true ∧
    ((l = .constant (g.2.2.2.1 (280 + k)) ∧ σ.captured = []) ∨ (l = .makes (g.2.2.1 k) ∧ σ.captured ≠ []))
theorem xSite.alike {g : xG} {k : Nat} {s U : State} (hW : s.WarmedH U.vm) (h : xSite g k s) : xSite g k U := by
  intro x pc index σ hk
  obtain ⟨m, kc, cf, i0, p0, l, hm, hkc, hcf, hsh, hfind, hmade, hcall, hl⟩ := h x pc index σ hk
  obtain ⟨kc', hk', he⟩ := hW.alike.2.2 _ _ hkc
  have hm' : U.methodNamed? x = some m := by
    have := State.methodNamed?_setVm (s := s) hW.alike x
    rw [hm] at this
    exact this
  refine ⟨m, kc', cf, i0, p0, l, hm', hk', by rw [he]; exact hcf, hsh, by rw [he]; exact hfind, Lambda.isMade_warmer hW hmade, ?_, hl⟩
  have hA := hW.alike
  simp only [State.lambdaCallable, hA.findClass, hA.assignable, hA.superclasses, hA.declaredIn] at hcall ⊢
  exact hcall
theorem xSite.same {g : xG} {k : Nat} {s U : State} (hv : U.vm = s.vm) (h : xSite g k s) : xSite g k U := by
  intro x pc index σ hk
  obtain ⟨m, kc, cf, i0, p0, l, hm, hkc, hcf, hsh, hfind, hmade, hcall, hl⟩ := h x pc index σ hk
  have hm' : U.methodNamed? x = some m := by
    have ha : s.vm.Alike U.vm := by rw [hv]; exact Vm.Alike.refl _
    have := State.methodNamed?_setVm (s := s) ha x
    rw [hm] at this
    exact this
  refine ⟨m, kc, cf, i0, p0, l, hm', by rw [hv]; exact hkc, hcf, hsh, hfind, by rw [hv]; exact hmade, ?_, hl⟩
  simp only [State.lambdaCallable, hv] at hcall ⊢
  exact hcall
def xAA (s : State) : Prop := va_Nw (.arrayOver (.array .int)) s
theorem xAA.moved {u U : State} (hvm : u.vm.Alike U.vm) (h : xAA u) : xAA U := by
  obtain ⟨comp, c, k, h1, h2, h3, h4, h5⟩ := arrayOverA_spec (args := #[]) (first := u) (o := none) (idx := []) h
  obtain ⟨k', hk', he⟩ := hvm.2.2 _ _ h3
  have hi : (U.vm.classes.findIdx? fun (x : Class) => match x.kind with | .array component _ => component == comp | _ => false) = some c := by
    rw [hvm.findIdx?_eq _ (fun _ => rfl)]
    exact h2
  have hkind : k'.kind = .array comp (.array .int) := by rw [he]; exact h4
  have f1 : U.vm.findClass (FieldType.array .int).toString = some comp := by rw [hvm.findClass]; exact h1
  have f2 : U.vm.findClass ("[" ++ (FieldType.array .int).toString) = some c := by rw [hvm.findClass]; exact h5
  unfold xAA va_Nw Cond.before Cond.holds
  simp only [Cond.value]
  rw [f1, Option.bind_some]
  refine (congrArg (fun o : Option Nat => (o.bind (fun c => (U.vm.classes[c]?).map fun (k : Class) => match k.kind with | .array _ ty => decide (ty = FieldType.array .int) && decide (U.vm.findClass ("[" ++ (FieldType.array .int).toString) = some c) | _ => false) == some true)) hi).trans ?_
  simp [hk', hkind, f2]
/-- the interfaces' methods that lambdas answer -/
def xfms : List MethodName := [⟨"UnimodularTables$Turner", "of", "(LUnimodularTables$Table;II)LUnimodularTables$Table;"⟩, ⟨"UnimodularTables$Back", "goes", "()V"⟩, ⟨"UnimodularTables$Asker", "holds", "(I)Z"⟩]
def xFm (x : MethodName) (U : State) : Prop := (Cond.declares x).before #[] U = true ∧ (Cond.interfaceMethod x.cls x.cls x.name x.desc).before #[] U = true
theorem xFm.moved {x : MethodName} (hx : x.cls ≠ "java/lang/invoke/MethodHandle" ∧ x.cls ≠ "java/lang/invoke/VarHandle") {u U : State} (hvm : u.vm.Alike U.vm) (h : xFm x u) : xFm x U := by
  obtain ⟨h1, h2⟩ := h
  obtain ⟨r, meth, hn, -⟩ := Cond.declares_spec h1
  have tr : ∀ {c : Cond}, c.onTables = true → c.before #[] (u.setVm U.vm) = true → c.before #[] U = true := by
    intro c hc h
    have e := Cond.onTables_vm (A := #[]) (A' := #[]) (U := u) (U' := U) U.vm c hc
    have hU : U.setVm U.vm = U := rfl
    rw [hU] at e
    rw [← e]
    exact h
  exact ⟨tr rfl (by rw [Cond.declares_setVm hvm]; exact h1), tr rfl (by rw [Cond.interfaceMethod_setVm hvm (r := r) hn hx]; exact h2)⟩
theorem xfms_ok : ∀ q ∈ xfms, q.cls ≠ "java/lang/invoke/MethodHandle" ∧ q.cls ≠ "java/lang/invoke/VarHandle" := by decide +kernel
def xOb (s : State) : Prop := (Cond.instantiable "java/lang/Object" 0).before #[] s = true
def xEx (g : xG) (s : State) : Prop := (∀ w ∈ xnest, va_Nw w s) ∧ (∀ q ∈ xcast, va_Nw (.castable q.1 q.2) s) ∧ (∀ C ∈ xover, va_AO C s) ∧ xAA s ∧ (∀ q ∈ xfaces, va_Fw q.1 q.2.1 q.2.2 s) ∧ (∀ k, k < 16 → xSite g k s) ∧ (∀ q ∈ xfms, xFm q s) ∧ xOb s
theorem xfaces_ok : ∀ q ∈ xfaces, q.2.1.cls ≠ "java/lang/invoke/MethodHandle" ∧ q.2.1.cls ≠ "java/lang/invoke/VarHandle" := by decide +kernel
theorem xEx.warm {g : xG} {s U : State} (hW : s.WarmedH U.vm) (h : xEx g s) : xEx g U := by
  refine ⟨?_, fun q hq => va_Nw.warmC hW (h.2.1 q hq), fun C hC => va_AO.moved hW.alike (h.2.2.1 C hC), h.2.2.2.1.moved hW.alike, fun q hq => va_Fw.moved (xfaces_ok q hq) hW.alike (h.2.2.2.2.1 q hq), fun k hk => xSite.alike hW (h.2.2.2.2.2.1 k hk), fun q hq => xFm.moved (xfms_ok q hq) hW.alike (h.2.2.2.2.2.2.1 q hq), word_at hW (Or.inl rfl) h.2.2.2.2.2.2.2⟩
  have h0 := h.1
  simp only [xnest, List.forall_mem_cons] at h0 ⊢
  obtain ⟨n0, n1, n2, n3, n4, n5, n6, n7, n8, n9, n10, n11, n12, -⟩ := h0
  exact ⟨va_Nw.warmM hW n0, va_Nw.warmF hW n1, va_Nw.warmF hW n2, va_Nw.warmF hW n3, va_Nw.warmF hW n4, va_Nw.warmF hW n5, va_Nw.warmF hW n6, va_Nw.warmF hW n7, va_Nw.warmF hW n8, va_Nw.warmF hW n9, va_Nw.warmF hW n10, va_Nw.warmM hW n11, va_Nw.warmM hW n12, fun _ hx => absurd hx List.not_mem_nil⟩
theorem xEx.same {g : xG} {s U : State} (hv : U.vm = s.vm) (h : xEx g s) : xEx g U := by
  have ha : s.vm.Alike U.vm := by rw [hv]; exact Vm.Alike.refl _
  refine ⟨?_, fun q hq => va_Nw.same rfl hv.symm (h.2.1 q hq), fun C hC => va_AO.moved ha (h.2.2.1 C hC), h.2.2.2.1.moved ha, fun q hq => va_Fw.moved (xfaces_ok q hq) ha (h.2.2.2.2.1 q hq), fun k hk => xSite.same hv (h.2.2.2.2.2.1 k hk), fun q hq => xFm.moved (xfms_ok q hq) ha (h.2.2.2.2.2.2.1 q hq), va_Nw.same (w := .instantiable "java/lang/Object" 0) rfl hv.symm h.2.2.2.2.2.2.2⟩
  have h0 := h.1
  simp only [xnest, List.forall_mem_cons] at h0 ⊢
  obtain ⟨n0, n1, n2, n3, n4, n5, n6, n7, n8, n9, n10, n11, n12, -⟩ := h0
  exact ⟨va_Nw.same rfl hv.symm n0, va_Nw.same rfl hv.symm n1, va_Nw.same rfl hv.symm n2, va_Nw.same rfl hv.symm n3, va_Nw.same rfl hv.symm n4, va_Nw.same rfl hv.symm n5, va_Nw.same rfl hv.symm n6, va_Nw.same rfl hv.symm n7, va_Nw.same rfl hv.symm n8, va_Nw.same rfl hv.symm n9, va_Nw.same rfl hv.symm n10, va_Nw.same rfl hv.symm n11, va_Nw.same rfl hv.symm n12, fun _ hx => absurd hx List.not_mem_nil⟩
/-- what holds of every state of the run -/
def xKf (g : xG) (s : State) : Prop := va_K g.1 xcl (xtys g) s ∧ (∀ q ∈ xstat, va_Z q.1 q.2.1 q.2.2.1 (xvv g q.2.2.2) (fun a => g.2.2.2.2.size ≤ a) s g.2.2.2.2) ∧ (∀ q ∈ xlds, vk_R q.1 q.2.1 q.2.2.1 (g.2.2.2.1 q.2.2.2) s) ∧ (∀ q ∈ xstatU, ∃ o : Option Nat, va_Z q.1 q.2.1 q.2.2 (va_rf o) (fun a => g.2.2.2.2.size ≤ a) s g.2.2.2.2) ∧ xEx g s
/-- what holds of the launch -/
def xGok (l : Launch) (g : xG) : Prop := l.flags = flags0 ∧ ∀ k e, xKc k = some e → k < 300 ∧ xat g (g.2.2.2.1 k) e g.2.2.2.2
theorem xKf.warm {g : xG} {s U : State} (hW : s.WarmedH U.vm) (h : xKf g s) : xKf g U := ⟨va_K.moved hW.alike h.1, fun q hq => va_Z.moved hW.alike (h.2.1 q hq), fun q hq => vk_R.warm hW (h.2.2.1 q hq), fun q hq => (h.2.2.2.1 q hq).imp fun _ hz => va_Z.moved hW.alike hz, h.2.2.2.2.warm hW⟩
theorem xKf.same {g : xG} {s U : State} (hv : U.vm = s.vm) (h : xKf g s) : xKf g U := by
  have ha : s.vm.Alike U.vm := by rw [hv]; exact Vm.Alike.refl _
  exact ⟨va_K.moved ha h.1, fun q hq => va_Z.moved ha (h.2.1 q hq), fun q hq => vk_R.same hv (h.2.2.1 q hq), fun q hq => (h.2.2.2.1 q hq).imp fun _ hz => va_Z.moved ha hz, h.2.2.2.2.same hv⟩
/-- a method's end: the answer and the world behind it -/
def xQ (g : xG) (L : xL) (v : Option xV) (w1 : xW) : Array Value → State → Outcome → State → Prop := fun _ _ o t => o = .returned (v.map (xvv g)) ∧ xSim g L w1 t.heap
/-- a method's contract -/
def xCt (L : xL) (y : MethodName) (cc : ByteArray) (nL : Nat) (ret : Option FieldType) (d lo : Nat) (as : List xV) (w0 : xW) (v : Option xV) (w1 : xW) : Prop :=
  w0.2.2.2.1 ≤ w1.2.2.2.1 ∧ w0.2.2.2.2 ≤ w1.2.2.2.2 ∧ ∀ (l : Launch) (g : xG), xGok l g →
    Met l y (ws_ y cc nL ret) ({ frames := d, cells := w1.2.2.2.1 - w0.2.2.2.1, slots := w1.2.2.2.2 - w0.2.2.2.2, locals := lo })
      (fun a U => a = (as.map (xvv g)).toArray ∧ xKf g U ∧ xSim g L w0 U.heap) (xQ g L v w1) (w1.2.2.2.1 - w0.2.2.2.1) (w1.2.2.2.2 - w0.2.2.2.2) (fun q => g.2.2.2.2.size ≤ q)
/-- what stands at a place of a method -/
def xCtx (p : Program) (l : Launch) (R : Room) (s : State) (m : MethodId) (args : Array Value) (meth : Method) (c : Code) (y : MethodName) (cc : ByteArray) (nL : Nat) (ret : Option FieldType) (d lo : Nat) (g : xG) (k0 n0 k1 n1 : Nat) : Prop :=
  p.tables.exec = Jvm.exec ∧ c.code = cc ∧ c.maxLocals = nL ∧ meth.sig.returnType = ret ∧ s.vm.findClass y.cls = some m.cls ∧ (∀ w ∈ lw_all, w.before args s = true) ∧ meth.locks = false ∧ (meth.name = y.name ∧ s.methodNamed? y = some m) ∧ xKf g s ∧ xGok l g ∧
    R.frames = d ∧ R.locals = lo ∧ R.cells = k1 - k0 ∧ R.slots = n1 - n0
/-- locals known: of place i the value -/
def xls (g : xG) (lv : List (Option xV)) : List (Nat × Value) := lv.zipIdx.filterMap (fun q => q.1.map (fun v => (q.2, xvv g v)))
/-- FROM A PLACE OF A METHOD: at pc with the locals lv, the operands st, in the world w, it ends with the answer v in the world w1 -/
def xB (L : xL) (y : MethodName) (cc : ByteArray) (nL : Nat) (ret : Option FieldType) (d lo : Nat) (pc : Nat) (lv : List (Option xV)) (st : List xV) (w : xW) (v : Option xV) (w1 : xW) : Prop :=
  w.2.2.2.1 ≤ w1.2.2.2.1 ∧ w.2.2.2.2 ≤ w1.2.2.2.2 ∧
  ∀ (p : Program) (l : Launch) (e : Env) (R : Room) (s : State) (m : MethodId) (args : Array Value) (below : List Frame) (meth : Method) (c : Code) (g : xG) (k0 n0 : Nat),
    xCtx p l R s m args meth c y cc nL ret d lo g k0 n0 w1.2.2.2.1 w1.2.2.2.2 →
    ∀ (H : Heap) (locs : List Loc) (k n : Nat) (ls : Array Slot), k0 + k = w.2.2.2.1 → n0 + n = w.2.2.2.2 → xSim g L w H → (∀ q ∈ locs, g.2.2.2.2.size ≤ q.base) → lv_has ls nL (xls g lv) →
      W p l e R s m args below meth c H locs k n (MQ below (xQ g L v w1) args s (w1.2.2.2.1 - k0) (w1.2.2.2.2 - n0) (fun q => g.2.2.2.2.size ≤ q)) (F0 m pc ls (st.map (xvv g)))
