/-! THE FUNCTIONAL SHADOW: pure heaps, the words of a state, the judgement Sim -/
set_option maxRecDepth 100000
/-- pure cells: an array (number of its type, its length, its contents) or an object (number of its class, its fields) -/
abbrev PC : Type := (Nat × vp_A) ⊕ (Nat × List Value)
/-- a pure heap: cells, (size, slots), addresses of the text constants -/
abbrev PH : Type := (Nat → Option PC) × (Nat × Nat) × (Nat → Nat)
/-- how a method ends: returned, or thrown (address, sort of exception) -/
abbrev Rt : Type := Option Value ⊕ (Nat × Nat)
abbrev RH : Type := Rt × PH
/-- the numbers of a run: classes, array classes, the first address that is ours, text constants -/
abbrev GG : Type := (va_G × (Nat → ClassId)) × Nat × (Nat → Nat) × (Nat → Nat)
abbrev clTab : List vw_C := [(RX1, TX1, 21), (RX2, TX2, 8), (RX3, TX3, 3), (RX4, TX4, 4), (RX5, TX5, 9), (RX7, TX7, 12), (RX8, TX8, 12), (RX9, TX9, 12), (RX10, TX10, 39), (RX12, TX12, 5), (RX13, TX13, 5), (RX14, TX14, 2), (RX15, TX15, 4), (RX16, TX16, 1), (RX17, TX17, 2), (RX18, TX18, 3), (RX19, TX19, 2), (RX20, TX20, 2), (RX21, TX21, 3)]
/-- the sorts of arrays -/
abbrev aTy : List FieldType := [.int, .long, .byte, .boolean, .object RX12, .object RX11, .object RX13, .object RX5, .object RX14, .array (.object RX14), .object RX15, .object RX21, .object "java/lang/String"]
abbrev aTys (dA : Nat → ClassId) : List (ClassId × FieldType) := [(dA 0, .int), (dA 1, .long), (dA 2, .byte), (dA 3, .boolean), (dA 4, .object RX12), (dA 5, .object RX11), (dA 6, .object RX13), (dA 7, .object RX5), (dA 8, .object RX14), (dA 9, .array (.object RX14)), (dA 10, .object RX15), (dA 11, .object RX21), (dA 12, .object "java/lang/String")]
def toE (dA : Nat → ClassId) (c : PC) : va_E := match c with
  | .inl a => .inl (dA a.1, a.2)
  | .inr o => .inr o
/-- a cell as the heap has it; a text constant is an object of class 100 + its number -/
def cOk (G : GG) (a : Nat) (c : PC) (H : Heap) : Prop := match c with
  | .inl x => G.2.1 ≤ a ∧ va_at G.1.1 clTab (a, .inl (G.1.2 x.1, x.2)) H
  | .inr o => if 100 ≤ o.1 then (o.1 < 123 ∧ a = G.2.2.1 (o.1 - 100)) else G.2.1 ≤ a ∧ va_at G.1.1 clTab (a, .inr o) H
def Rep (G : GG) (h : PH) (H : Heap) : Prop := H.size = h.2.1.1 ∧ h.2.2 = G.2.2.1 ∧ ∀ (a : Nat) (c : PC), h.1 a = some c → cOk G a c H
def LeH (h k : PH) : Prop := h.2.1.1 ≤ k.2.1.1 ∧ h.2.1.2 ≤ k.2.1.2 ∧ k.2.2 = h.2.2
theorem LeH.rf (h : PH) : LeH h h := ⟨Nat.le_refl _, Nat.le_refl _, rfl⟩
theorem LeH.trans {a b c : PH} (h : LeH a b) (k : LeH b c) : LeH a c := ⟨Nat.le_trans h.1 k.1, Nat.le_trans h.2.1 k.2.1, k.2.2.trans h.2.2⟩
def hset (h : PH) (a : Nat) (c : PC) : PH := (va_up h.1 a (some c), h.2.1, h.2.2)
def hnew (h : PH) (n : Nat) (c : PC) : PH := (va_up h.1 h.2.1.1 (some c), (h.2.1.1 + 1, h.2.1.2 + n), h.2.2)
def hbump (h : PH) (k n : Nat) : PH := (h.1, (h.2.1.1 + k, h.2.1.2 + n), h.2.2)
theorem LeH.set (h : PH) (a : Nat) (c : PC) : LeH h (hset h a c) := LeH.rf h
theorem LeH.new (h : PH) (n : Nat) (c : PC) : LeH h (hnew h n c) := ⟨Nat.le_succ _, Nat.le_add_right _ _, rfl⟩
theorem LeH.bump (h : PH) (k n : Nat) : LeH h (hbump h k n) := ⟨Nat.le_add_right _ _, Nat.le_add_right _ _, rfl⟩
theorem va_at_kept {D : va_G} {cl : List vw_C} {q : Nat × va_E} {H H1 : Heap} (h : va_at D cl q H) (hq : H1[q.1]? = H[q.1]?) : va_at D cl q H1 := h.kept hq
theorem cOk.kept {G : GG} {a : Nat} {c : PC} {H H1 : Heap} (h : cOk G a c H) (hq : H1[a]? = H[a]?) : cOk G a c H1 := by
  cases c with
  | inl x => exact ⟨h.1, h.2.kept hq⟩
  | inr o =>
    unfold cOk at h ⊢
    by_cases h1 : 100 ≤ o.1
    · simp only [h1, if_true] at h ⊢
      exact h
    · simp only [h1, if_false] at h ⊢
      exact ⟨h.1, h.2.kept hq⟩
theorem Rep.set {G : GG} {h : PH} {H H1 : Heap} {a : Nat} {c : PC} (hR : Rep G h H) (hc : cOk G a c H1) (z : H1.size = H.size) (oq : ∀ q : Nat, q ≠ a → H1[q]? = H[q]?) : Rep G (hset h a c) H1 := by
  refine ⟨z.trans hR.1, hR.2.1, fun b d hb => ?_⟩
  by_cases e : b = a
  · subst e
    have : (va_up h.1 b (some c)) b = some d := hb
    rw [va_up_self] at this
    cases this
    exact hc
  · have hb' : (va_up h.1 a (some c)) b = some d := hb
    rw [va_up, if_neg e] at hb'
    exact (hR.2.2 b d hb').kept (oq b e)
/-- every cell known lies in the heap, or is a text constant -/
theorem Rep.grow {G : GG} {h : PH} {H H1 : Heap} {k n : Nat} (hR : Rep G h H) (z : H1.size = H.size + k) (oq : ∀ q : Nat, q < H.size → H1[q]? = H[q]?) : Rep G (hbump h k n) H1 := by
  refine ⟨by rw [z, hR.1]; rfl, hR.2.1, fun b d hb => ?_⟩
  have h1 := hR.2.2 b d hb
  cases d with
  | inl x => exact ⟨h1.1, h1.2.kept (oq b h1.2.lt)⟩
  | inr o =>
    unfold cOk at h1 ⊢
    by_cases h2 : 100 ≤ o.1
    · simp only [h2, if_true] at h1 ⊢
      exact h1
    · simp only [h2, if_false] at h1 ⊢
      exact ⟨h1.1, h1.2.kept (oq b h1.2.lt)⟩
theorem Rep.new {G : GG} {h : PH} {H H1 : Heap} {n : Nat} {c : PC} (hR : Rep G h H) (hc : cOk G H.size c H1) (z : H1.size = H.size + 1) (oq : ∀ q : Nat, q < H.size → H1[q]? = H[q]?) : Rep G (hnew h n c) H1 := by
  have h1 := Rep.grow (n := n) hR z oq
  refine ⟨h1.1, h1.2.1, fun b d hb => ?_⟩
  have hb' : (va_up h.1 h.2.1.1 (some c)) b = some d := hb
  by_cases e : b = h.2.1.1
  · subst e
    rw [va_up_self] at hb'
    cases hb'
    rw [← hR.1]
    exact hc
  · rw [va_up, if_neg e] at hb'
    exact h1.2.2 b d hb'
/-- words that don't ride in lw_all -/
def nwKind : Cond → Bool
  | .fieldLinkNest .. => true
  | .methodLinkNest .. => true
  | .castable .. => true
  | .declares .. => true
  | _ => false
theorem nw_tab {w : Cond} (h : nwKind w = true) : w.onTables = true := by
  cases w <;> first | rfl | (simp [nwKind] at h)
theorem nw_warm {w : Cond} (hk : nwKind w = true) {s U : State} (hW : s.WarmedH U.vm) (h : va_Nw w s) : va_Nw w U := by
  cases w <;> first | exact va_Nw.warmF hW h | exact va_Nw.warmM hW h | exact va_Nw.warmC hW h | exact va_Nw.warmD hW h | (simp [nwKind] at hk)
/-- text constants: (class, entry, text, number) -/
abbrev strTab : List (String × Nat × String × Nat) := [("BitRopes", 22, "leaf", 0), ("BitRopes", 24, "row", 1), ("BitRopes", 26, "letters", 2), ("BitRopes", 32, "put", 3), ("BitRopes", 34, "set", 4), ("BitRopes", 36, "cut", 5), ("BitRopes", 38, "turn", 6), ("BitRopes", 40, "join", 7), ("BitRopes", 42, "split", 8), ("BitRopes", 44, "type", 9), ("BitRopes", 46, "erase", 10), ("BitRopes", 48, "o\x72", 11), ("BitRopes", 50, "and", 12), ("BitRopes", 52, "not", 13), ("BitRopes", 54, "empty", 14), ("BitRopes", 56, "even", 15), ("BitRopes", 58, "like", 16), ("BitRopes", 60, "begins", 17), ("BitRopes", 62, "size", 18), ("BitRopes", 64, "ones", 19), ("BitRopes", 66, "runs", 20), ("BitRopes", 68, "leaves", 21), ("BitRopes", 70, "numbe\x72", 22), ("BitRopes$BookReade\x72", 17, "put", 3), ("BitRopes$BookReade\x72", 19, "set", 4), ("BitRopes$BookReade\x72", 21, "cut", 5), ("BitRopes$BookReade\x72", 23, "turn", 6), ("BitRopes$BookReade\x72", 25, "join", 7), ("BitRopes$BookReade\x72", 27, "split", 8), ("BitRopes$BookReade\x72", 29, "type", 9), ("BitRopes$BookReade\x72", 31, "erase", 10), ("BitRopes$SentenceReade\x72", 17, "empty", 14), ("BitRopes$SentenceReade\x72", 19, "even", 15), ("BitRopes$SentenceReade\x72", 21, "like", 16), ("BitRopes$SentenceReade\x72", 23, "begins", 17), ("BitRopes$SentenceReade\x72", 29, "size", 18), ("BitRopes$SentenceReade\x72", 31, "ones", 19), ("BitRopes$SentenceReade\x72", 33, "runs", 20), ("BitRopes$SentenceReade\x72", 35, "leaves", 21), ("BitRopes$SentenceReade\x72", 37, "numbe\x72", 22), ("BitRopes$SentenceReade\x72", 86, "not", 13), ("BitRopes$SentenceReade\x72", 81, "and", 12), ("BitRopes$SentenceReade\x72", 64, "o\x72", 11)]
abbrev strLen : List Nat := [4, 3, 7, 3, 3, 3, 4, 4, 5, 4, 5, 2, 3, 3, 5, 4, 4, 6, 4, 4, 4, 6, 6]
abbrev strByt : List (List Int32) := [[108, 101, 97, 102], [114, 111, 119], [108, 101, 116, 116, 101, 114, 115], [112, 117, 116], [115, 101, 116], [99, 117, 116], [116, 117, 114, 110], [106, 111, 105, 110], [115, 112, 108, 105, 116], [116, 121, 112, 101], [101, 114, 97, 115, 101], [111, 114], [97, 110, 100], [110, 111, 116], [101, 109, 112, 116, 121], [101, 118, 101, 110], [108, 105, 107, 101], [98, 101, 103, 105, 110, 115], [115, 105, 122, 101], [111, 110, 101, 115], [114, 117, 110, 115], [108, 101, 97, 118, 101, 115], [110, 117, 109, 98, 101, 114]]
/-- pairs of classes that can't be cast -/
abbrev ncTab : List (String × String) := [(RX12, RX13), (RX13, RX12)]
abbrev aoTab : List String := [RX12, RX11, RX13, RX5, RX14, RX15, RX21, "java/lang/String"]
abbrev yCond : MethodName := ⟨"BitRopes$Cond", "is", "(LBitRopes;I)Z"⟩
abbrev fwTab : List (String × MethodName) := [(RX16, ⟨RX16, "is", "(LBitRopes;I)Z"⟩), (RX17, ⟨RX17, "is", "(LBitRopes;I)Z"⟩), (RX18, ⟨RX18, "is", "(LBitRopes;I)Z"⟩), (RX19, ⟨RX19, "is", "(LBitRopes;I)Z"⟩), (RX20, ⟨RX20, "is", "(LBitRopes;I)Z"⟩)]
/-- the array class over arrays of Packed -/
def va_A9 (U : State) : Prop := (Cond.arrayOver (.array (.object RX14))).before #[] U = true
theorem va_A9.moved {u U : State} (hvm : u.vm.Alike U.vm) (h : va_A9 u) : va_A9 U := by
  obtain ⟨comp, c, k, h1, h2, h3, h4, h5⟩ := arrayOverA_spec h
  obtain ⟨k', hk', he⟩ := hvm.2.2 _ _ h3
  have hi : (U.vm.classes.findIdx? fun (x : Class) => match x.kind with | .array component _ => component == comp | _ => false) = some c := by
    rw [hvm.findIdx?_eq _ (fun _ => rfl)]
    exact h2
  have hkind : k'.kind = .array comp (.array (.object RX14)) := by rw [he]; exact h4
  have f1 : U.vm.findClass (FieldType.array (.object RX14)).toString = some comp := by rw [hvm.findClass]; exact h1
  have f2 : U.vm.findClass ("[" ++ (FieldType.array (.object RX14)).toString) = some c := by rw [hvm.findClass]; exact h5
  unfold va_A9 Cond.before Cond.holds
  simp only [Cond.value]
  rw [f1, Option.bind_some]
  refine (congrArg (fun o : Option Nat => (o.bind (fun c => (U.vm.classes[c]?).map fun (k : Class) => match k.kind with | .array _ ty => decide (ty = FieldType.array (.object RX14)) && decide (U.vm.findClass ("[" ++ (FieldType.array (.object RX14)).toString) = some c) | _ => false) == some true)) hi).trans ?_
  simp [hk', hkind, f2]
/-- private methods of Reader, selected for the classes under it -/
abbrev selP : List Cond := [RX7, RX8, RX9].flatMap fun C => ([⟨RX6, "peek", "()I"⟩, ⟨RX6, "isLette\x72", "(I)Z"⟩, ⟨RX6, "isDigit", "(I)Z"⟩, ⟨RX6, "reads", "(Z)V"⟩] : List MethodName).map fun y => Cond.selects C y y
theorem selP_warm {w : Cond} (hw : w ∈ selP) {s U : State} (hW : s.WarmedH U.vm) (h : va_Nw w s) : va_Nw w U := by
  obtain ⟨C, -, h1⟩ := List.mem_flatMap.mp hw
  obtain ⟨y, -, rfl⟩ := List.mem_map.mp h1
  exact word_at hW (Or.inl rfl) h
/-- what the tables say all through the run -/
def KK (G : GG) (U : State) : Prop := va_K G.1.1 clTab (aTys G.1.2) U ∧ (∀ w ∈ lw_tbl, nwKind w = true → va_Nw w U) ∧ (∀ C ∈ aoTab, va_AO C U) ∧ (∀ q ∈ fwTab, va_Fw q.1 yCond q.2 U) ∧ (∀ q ∈ ncTab, va_Nc q.1 q.2 U) ∧ (∀ q ∈ strTab, vk_R q.1 q.2.1 q.2.2.1 (G.2.2.1 q.2.2.2) U) ∧ va_A9 U ∧ (∀ w ∈ selP, va_Nw w U)
abbrev GA (G : GG) : Nat → Prop := fun q => G.2.1 ≤ q
/-- what lies in the heap and nobody writes -/
def zO : Nat → Option Nat
  | 0 => none
  | n + 1 => some n
def CK (G : GG) (U : State) (H : Heap) : Prop := vk_S 23 strLen strByt G.2.2.1 (fun i => G.2.2.1 (100 + i)) (GA G) U H ∧ vx_Zq Bundle.tN "UNASSIGNED_STACK" Bundle.steD (GA G) U H ∧ vx_Zq Bundle.tN "SUPPRESSED_SENTINEL" Bundle.listD (GA G) U H ∧ va_Z "java/lang/String" "COMPACT_STRINGS" "Z" (.int 1) (GA G) U H ∧ va_Z "jdk/internal/util/Preconditions" "SIOOBE_FORMATTER" "Ljava/util/function/BiFunction;" (va_rf (zO (G.2.2.1 202))) (GA G) U H ∧ va_Z Bundle.tN "UNASSIGNED_STACK" Bundle.steD (va_rf (zO (G.2.2.1 200))) (GA G) U H ∧ va_Z Bundle.tN "SUPPRESSED_SENTINEL" Bundle.listD (va_rf (zO (G.2.2.1 201))) (GA G) U H ∧ va_T .int (G.2.2.1 300) (G.2.2.1 301) (fun j => .int (Int32.ofNat (G.2.2.1 (400 + j)))) (GA G) U H
theorem KK.warm {G : GG} {s U : State} (hW : s.WarmedH U.vm) (h : KK G s) : KK G U := by
  obtain ⟨h1, h2, h3, h4, h5, h6, h7, h8⟩ := h
  exact ⟨va_K.moved hW.alike h1, fun w hw hk => nw_warm hk hW (h2 w hw hk), fun C hC => va_AO.moved hW.alike (h3 C hC), fun q hq => va_Fw.moved (by decide) hW.alike (h4 q hq), fun q hq => va_Nc.moved hW.alike (h5 q hq), fun q hq => vk_R.warm hW (h6 q hq), va_A9.moved hW.alike h7, fun w hw => selP_warm hw hW (h8 w hw)⟩
theorem KK.same {G : GG} {s U : State} (hv : U.vm = s.vm) (h : KK G s) : KK G U := KK.warm (by rw [hv]; exact State.WarmedH.refl s) h
theorem CK.moved {G : GG} {s U : State} {H : Heap} (hv : s.vm.Alike U.vm) (h : CK G s H) : CK G U H := ⟨vk_S.moved hv h.1, vx_Zq.moved hv h.2.1, vx_Zq.moved hv h.2.2.1, va_Z.moved hv h.2.2.2.1, va_Z.moved hv h.2.2.2.2.1, va_Z.moved hv h.2.2.2.2.2.1, va_Z.moved hv h.2.2.2.2.2.2.1, va_T.moved hv h.2.2.2.2.2.2.2⟩
theorem CK.kept {G : GG} {U : State} {H H1 : Heap} (h : CK G U H) (hq : ∀ a : Nat, a < H.size → ¬ GA G a → H1[a]? = H[a]?) : CK G U H1 := ⟨h.1.kept hq, h.2.1.kept hq, h.2.2.1.kept hq, h.2.2.2.1.kept hq, h.2.2.2.2.1.kept hq, h.2.2.2.2.2.1.kept hq, h.2.2.2.2.2.2.1.kept hq, h.2.2.2.2.2.2.2.kept hq⟩
/-- the pure heap h stands in the state U -/
def RepS (G : GG) (h : PH) (U : State) : Prop := KK G U ∧ CK G U U.heap ∧ G.2.1 ≤ U.heap.size ∧ Rep G h U.heap
/-- the room of a level -/
abbrev rmL (lev c s : Nat) : Room := { frames := lev, cells := c, slots := s, locals := 128 * lev }
def xcName : Nat → String
  | 0 => RX2
  | 1 => "java/util/NoSuchElementException"
  | _ => "java/lang/ArrayStoreException"
def Qn (G : GG) (r : Rt) (h1 : PH) : Array Value → State → Outcome → State → Prop := fun _ st o t => (∃ v, r = .inl v ∧ o = .returned v) ∧ RepS G h1 t ∧ va_F (GA G) st t
def Xn (G : GG) (r : Rt) (h1 : PH) : Addr → String → State → State → Prop := fun q E st t => (∃ k, r = .inr (q, k) ∧ E = xcName k) ∧ RepS G h1 t ∧ va_F (GA G) st t
/-- THE CONTRACT: where the pure function answers, the method ends so -/
def MT (l : Launch) (G : GG) (y : MethodName) (ws : List Cond) (lev : Nat) (av : List Value) (h : PH) (P : Option RH) : Prop :=
  l.stackTraces = false → ∀ (r : Rt) (h1 : PH), P = some (r, h1) → LeH h h1 ∧ vx_Met l y ws (rmL lev (h1.2.1.1 - h.2.1.1) (h1.2.1.2 - h.2.1.2)) (va_Pc av (fun U => RepS G h U)) (Qn G r h1) (Xn G r h1) (h1.2.1.1 - h.2.1.1) (h1.2.1.2 - h.2.1.2) (GA G)
/-- what only grows -/
def Mono (h : PH) (P : Option RH) : Prop := ∀ (r : Rt) (h1 : PH), P = some (r, h1) → LeH h h1
/-- a method: its class, code, locals, level, answer, table of handlers, whether it is a constructor -/
abbrev Yx : Type := String × ByteArray × Nat × Nat × Option FieldType × List (Nat × Nat × Nat × Nat) × Bool
/-- what is known in the method y -/
def Kx (y : Yx) (p : Program) (l : Launch) (R : Room) (s : State) (m : MethodId) (args : Array Value) (meth : Method) (c : Code) (G : GG) (h0 h1 : PH) : Prop := match y with
  | (own, cc, nL, lev, ret, hh, ini) => p.tables.exec = Jvm.exec ∧ c.code = cc ∧ c.maxLocals = nL ∧ s.vm.findClass own = some m.cls ∧ (∀ w ∈ lw_all, w.before args s = true) ∧ meth.locks = false ∧ meth.sig.returnType = ret ∧ KK G s ∧ CK G s s.heap ∧ G.2.1 ≤ s.heap.size ∧ R = rmL lev (h1.2.1.1 - h0.2.1.1) (h1.2.1.2 - h0.2.1.2) ∧ l.stackTraces = false ∧ c.exceptionTable.toList = tableOf hh ∧ (ini = true → meth.name = "<init>")
/-- from the frame at pc, with heap h, the method ends as P says -/
def Sim (y : Yx) (h : PH) (pc : Nat) (lv : List (Nat × Value)) (st : List Value) (P : Option RH) : Prop := Mono h P ∧
  ∀ (p : Program) (l : Launch) (e : Env) (R : Room) (s : State) (m : MethodId) (args : Array Value) (below : List Frame) (meth : Method) (c : Code) (G : GG) (h0 : PH) (r : Rt) (h1 : PH), Kx y p l R s m args meth c G h0 h1 → P = some (r, h1) → LeH h0 h → ∀ (H : Heap) (locs : List Loc) (ls : Array Slot), Rep G h H → va_S (GA G) s.heap H locs → lv_has ls c.maxLocals lv →
      W p l e R s m args below meth c H locs (h.2.1.1 - h0.2.1.1) (h.2.1.2 - h0.2.1.2) (vx_MQ below (Qn G r h1) (Xn G r h1) args s (h1.2.1.1 - h0.2.1.1) (h1.2.1.2 - h0.2.1.2) (GA G)) (F0 m pc ls st)
/-- the same, an exception q thrown over the frame -/
def SimX (y : Yx) (h : PH) (pc : Nat) (lv : List (Nat × Value)) (q k : Nat) (P : Option RH) : Prop := Mono h P ∧
  ∀ (p : Program) (l : Launch) (e : Env) (R : Room) (s : State) (m : MethodId) (args : Array Value) (below : List Frame) (meth : Method) (c : Code) (G : GG) (h0 : PH) (r : Rt) (h1 : PH), Kx y p l R s m args meth c G h0 h1 → P = some (r, h1) → LeH h0 h → ∀ (H : Heap) (locs : List Loc) (ls : Array Slot) (st : List Value) (ce : Cell), Rep G h H → va_S (GA G) s.heap H locs → lv_has ls c.maxLocals lv → H[q]? = some ce → ce.vm = .none → s.vm.findClass (xcName k) = some ce.cls →
      vx_W p l e R s m args below meth c H locs (h.2.1.1 - h0.2.1.1) (h.2.1.2 - h0.2.1.2) (vx_MQ below (Qn G r h1) (Xn G r h1) args s (h1.2.1.1 - h0.2.1.1) (h1.2.1.2 - h0.2.1.2) (GA G)) (F0 m pc ls st) q
