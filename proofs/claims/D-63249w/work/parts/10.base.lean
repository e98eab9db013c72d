set_option maxRecDepth 100000
/-! ===== THE Z LAYER: values, memory, the judgement Z. ints are whole numbers, references are Nat (0: null, a + 1: the cell a), longs Int64 ===== -/
abbrev AV : Type := Int ⊕ Nat ⊕ Int64
abbrev aI (x : Int) : AV := Sum.inl x
abbrev aR (a : Nat) : AV := Sum.inr (Sum.inl a)
abbrev aL (w : Int64) : AV := Sum.inr (Sum.inr w)
def rV (a : Nat) : Value := match a with
  | 0 => .null
  | a + 1 => .ref a
def tV : AV → Value
  | .inl x => .int (Int32.ofInt x)
  | .inr (.inl a) => rV a
  | .inr (.inr w) => .long w
theorem rV_cat (a : Nat) : (rV a).category = 1 := by cases a <;> rfl
def catA : AV → Nat
  | .inl _ => 1
  | .inr (.inl _) => 1
  | .inr (.inr _) => 2
theorem catA_eq (v : AV) : (tV v).category = catA v := by
  rcases v with x | a | w
  · rfl
  · exact rV_cat a
  · rfl
def rng (x : Int) : Prop := -2147483648 ≤ x ∧ x < 2147483648
theorem rg_toInt {x : Int} (h : rng x) : (Int32.ofInt x).toInt = x := Int32.toInt_ofInt_of_le (by have := h.1; omega) (by have := h.2; omega)
theorem rg_lt {x y : Int} (hx : rng x) (hy : rng y) : Int32.ofInt x < Int32.ofInt y ↔ x < y := by rw [Int32.lt_iff_toInt_lt, rg_toInt hx, rg_toInt hy]
theorem rg_le {x y : Int} (hx : rng x) (hy : rng y) : Int32.ofInt x ≤ Int32.ofInt y ↔ x ≤ y := by rw [Int32.le_iff_toInt_le, rg_toInt hx, rg_toInt hy]
theorem rg_eq {x y : Int} (hx : rng x) (hy : rng y) : Int32.ofInt x = Int32.ofInt y ↔ x = y := by rw [← Int32.toInt_inj, rg_toInt hx, rg_toInt hy]
theorem rg_0 : rng 0 := by unfold rng; omega
theorem rg_clamp {x : Int} (h : rng x) : (Int32.ofInt x).toNatClampNeg = x.toNat := by
  show (Int32.ofInt x).toInt.toNat = x.toNat
  rw [rg_toInt h]
theorem rg_in {i : Int} {n : Nat} (h : rng i) (h0 : 0 ≤ i) (h1 : i < n) : vp_in (Int32.ofInt i) n := vp_in_iff.mpr (by rw [rg_toInt h]; exact ⟨h0, h1⟩)
/-! memory: next address, kind, length, ints, references -/
abbrev Mem : Type := Nat × (Nat → Nat) × (Nat → Int) × (Nat → Int → Int) × (Nat → Int → Nat)
def sz_ (u : Mem) : Nat := u.1
def kd_ (u : Mem) (a : Nat) : Nat := u.2.1 a
def ln_ (u : Mem) (a : Nat) : Int := u.2.2.1 a
def iv_ (u : Mem) (a : Nat) (i : Int) : Int := u.2.2.2.1 a i
def rv_ (u : Mem) (a : Nat) (i : Int) : Nat := u.2.2.2.2 a i
def wI_ (u : Mem) (a : Nat) (i x : Int) : Mem := (u.1, u.2.1, u.2.2.1, (fun b j => if b = a ∧ j = i then x else u.2.2.2.1 b j), u.2.2.2.2)
def wR_ (u : Mem) (a : Nat) (i : Int) (x : Nat) : Mem := (u.1, u.2.1, u.2.2.1, u.2.2.2.1, (fun b j => if b = a ∧ j = i then x else u.2.2.2.2 b j))
def al_ (u : Mem) (K : Nat) (n : Int) : Mem := (u.1 + 1, (fun b => if b = u.1 then K else u.2.1 b), (fun b => if b = u.1 then n else u.2.2.1 b), (fun b j => if b = u.1 then 0 else u.2.2.2.1 b j), (fun b j => if b = u.1 then 0 else u.2.2.2.2 b j))
theorem sz_wI (u : Mem) (a : Nat) (i x : Int) : sz_ (wI_ u a i x) = sz_ u := rfl
theorem kd_wI (u : Mem) (a : Nat) (i x : Int) (b : Nat) : kd_ (wI_ u a i x) b = kd_ u b := rfl
theorem ln_wI (u : Mem) (a : Nat) (i x : Int) (b : Nat) : ln_ (wI_ u a i x) b = ln_ u b := rfl
theorem iv_wI (u : Mem) (a : Nat) (i x : Int) (b : Nat) (j : Int) : iv_ (wI_ u a i x) b j = if b = a ∧ j = i then x else iv_ u b j := rfl
theorem rv_wI (u : Mem) (a : Nat) (i x : Int) (b : Nat) (j : Int) : rv_ (wI_ u a i x) b j = rv_ u b j := rfl
theorem sz_wR (u : Mem) (a : Nat) (i : Int) (x : Nat) : sz_ (wR_ u a i x) = sz_ u := rfl
theorem kd_wR (u : Mem) (a : Nat) (i : Int) (x b : Nat) : kd_ (wR_ u a i x) b = kd_ u b := rfl
theorem ln_wR (u : Mem) (a : Nat) (i : Int) (x b : Nat) : ln_ (wR_ u a i x) b = ln_ u b := rfl
theorem iv_wR (u : Mem) (a : Nat) (i : Int) (x b : Nat) (j : Int) : iv_ (wR_ u a i x) b j = iv_ u b j := rfl
theorem rv_wR (u : Mem) (a : Nat) (i : Int) (x b : Nat) (j : Int) : rv_ (wR_ u a i x) b j = if b = a ∧ j = i then x else rv_ u b j := rfl
theorem sz_al (u : Mem) (K : Nat) (n : Int) : sz_ (al_ u K n) = sz_ u + 1 := rfl
theorem kd_al (u : Mem) (K : Nat) (n : Int) (b : Nat) : kd_ (al_ u K n) b = if b = sz_ u then K else kd_ u b := rfl
theorem ln_al (u : Mem) (K : Nat) (n : Int) (b : Nat) : ln_ (al_ u K n) b = if b = sz_ u then n else ln_ u b := rfl
theorem iv_al (u : Mem) (K : Nat) (n : Int) (b : Nat) (j : Int) : iv_ (al_ u K n) b j = if b = sz_ u then 0 else iv_ u b j := rfl
theorem rv_al (u : Mem) (K : Nat) (n : Int) (b : Nat) (j : Int) : rv_ (al_ u K n) b j = if b = sz_ u then 0 else rv_ u b j := rfl
/-! kinds: 1..22 objects by their class's place in cls_, from 100 on arrays: 100 int, 101 char, 102 boolean, 103 byte, 104 long, 105 Twig, 106 View, 107 Rope -/
def cls_ : List vw_C := [(RX2, TX2, 2), (RX1, TX1, 9), (RX2, TX2, 2), (RX2, TX2, 2), (RX4, TX4, 3), (RX5, TX5, 6), (RX6, TX6, 4), (RX2, TX2, 2), (RX8, TX8, 3), (RX9, TX9, 10), (RX10, TX10, 8), (RX11, TX11, 8), (RX12, TX12, 4), (RX13, TX13, 39), (RX14, TX14, 3), (RX15, TX15, 4), (RX16, TX16, 3), (RX17, TX17, 5), (RX18, TX18, 5), (RJ3, TJ3, 0), (RJ8, TJ8, 0), (RJ9, TJ9, 0), (RJ10, TJ10, 0)]
abbrev Dx_ : Type := (Nat → ClassId) × (Nat → Nat → Nat) × (Nat → ClassId)
def tys_ (D : Dx_) : List (ClassId × FieldType) := [(D.2.2 100, .int), (D.2.2 101, .char), (D.2.2 102, .boolean), (D.2.2 103, .byte), (D.2.2 104, .long), (D.2.2 105, .object "KeyHall$Twig"), (D.2.2 106, .object "KeyHall$View"), (D.2.2 107, .object "KeyHall$Rope")]
def isI_ (d : String) : Bool := d == "I" || d == "Z" || d == "C"
def rf_ (K k : Nat) : Bool := match cls_[K]? with
  | some r => !(isI_ (r.2.1 k).2.2.1)
  | none => false
def nF_ (K : Nat) : Nat := match cls_[K]? with
  | some r => r.2.2
  | none => 0
def fv_ (K : Nat) (u : Mem) (a k : Nat) : Value := if rf_ K k = true then rV (rv_ u a k) else .int (Int32.ofInt (iv_ u a k))
def av_ (K : Nat) (u : Mem) (a i : Nat) : Value := if K < 104 then .int (Int32.ofInt (iv_ u a i)) else if K = 104 then .long (Int64.ofInt (iv_ u a i)) else rV (rv_ u a i)
def At_ (D : Dx_) (u : Mem) (H : Heap) (a : Nat) : Prop :=
  (kd_ u (a + 1) < 100 ∧ t_OB a (D.1 (kd_ u (a + 1))) (nF_ (kd_ u (a + 1))) (D.2.1 (kd_ u (a + 1))) H (fv_ (kd_ u (a + 1)) u (a + 1))) ∨
  (100 ≤ kd_ u (a + 1) ∧ 0 ≤ ln_ u (a + 1) ∧ ln_ u (a + 1) < 2147483648 ∧ H[a]? = some (arrV (D.2.2 (kd_ u (a + 1))) (ln_ u (a + 1)).toNat (av_ (kd_ u (a + 1)) u (a + 1))))
def Rep_ (D : Dx_) (B : Nat) (u : Mem) (H : Heap) : Prop := sz_ u = H.size + 1 ∧ kd_ u 0 = 0 ∧ (∀ a, kd_ u (a + 1) ≠ 0 → B ≤ a ∧ At_ D u H a) ∧ ∀ a, B ≤ a → a < H.size → kd_ u (a + 1) ≠ 0
theorem At_.lt {D : Dx_} {u : Mem} {H : Heap} {a : Nat} (h : At_ D u H a) : a < H.size := by
  rcases h with ⟨-, cell, h, -⟩ | ⟨-, -, -, h⟩
  · exact (Array.getElem?_eq_some_iff.mp h).1
  · exact (Array.getElem?_eq_some_iff.mp h).1
theorem Rep_.lt {D : Dx_} {B : Nat} {u : Mem} {H : Heap} (h : Rep_ D B u H) {a : Nat} (ha : kd_ u a ≠ 0) : a < sz_ u ∧ a ≠ 0 := by
  cases a with
  | zero => exact absurd h.2.1 ha
  | succ a => exact ⟨by rw [h.1]; have := (h.2.2.1 a ha).2.lt; omega, by omega⟩
theorem At_.obj {D : Dx_} {u : Mem} {H : Heap} {a K : Nat} (h : At_ D u H a) (hk : kd_ u (a + 1) = K) (hK : K < 100) : t_OB a (D.1 K) (nF_ K) (D.2.1 K) H (fv_ K u (a + 1)) := by
  subst hk
  rcases h with ⟨-, h⟩ | ⟨h, -⟩
  · exact h
  · omega
theorem At_.arr {D : Dx_} {u : Mem} {H : Heap} {a K : Nat} (h : At_ D u H a) (hk : kd_ u (a + 1) = K) (hK : 100 ≤ K) : 0 ≤ ln_ u (a + 1) ∧ ln_ u (a + 1) < 2147483648 ∧ H[a]? = some (arrV (D.2.2 K) (ln_ u (a + 1)).toNat (av_ K u (a + 1))) := by
  subst hk
  rcases h with ⟨h, -⟩ | ⟨-, h⟩
  · omega
  · exact h
/-- what the tables say of nest mates, casts, arrays of references: words that aren't in lw_all -/
def nestF_ : List (String × Nat × String × String × String) := [("KeyHall$ByteTree", 91, "KeyHall$Twig", "path", "[I"), ("KeyHall$ByteTree", 34, "KeyHall$Twig", "length", "I"), ("KeyHall$ByteTree", 61, "KeyHall$Twig", "entry", "LKeyHall$Entry;"), ("KeyHall$ByteTree", 47, "KeyHall$Twig", "fan", "LKeyHall$Fan;"), ("KeyHall", 233, "KeyHall$Automaton", "start", "I"), ("KeyHall", 258, "KeyHall$Scroll", "rope", "LKeyHall$Rope;"), ("KeyHall", 271, "KeyHall$Scroll", "suffixes", "[I"), ("KeyHall", 275, "KeyHall$Scroll", "common", "[I"), ("KeyHall", 124, "KeyHall$View", "tree", "LKeyHall$Tree;"), ("KeyHall", 111, "KeyHall$View", "turned", "Z"), ("KeyHall", 206, "KeyHall$View", "changes", "I"), ("KeyHall", 194, "KeyHall$View", "told", "LKeyHall$Entry;"), ("KeyHall", 198, "KeyHall$View", "canDrop", "Z"), ("KeyHall", 134, "KeyHall$Entry", "value", "I"), ("KeyHall$BitTree", 19, "KeyHall$Fork", "bit", "I"), ("KeyHall$BitTree", 56, "KeyHall$Fork", "zero", "LKeyHall$Fork;"), ("KeyHall$BitTree", 59, "KeyHall$Fork", "one", "LKeyHall$Fork;"), ("KeyHall$BitTree", 13, "KeyHall$Fork", "entry", "LKeyHall$Entry;"), ("KeyHall$CharTree", 27, "KeyHall$Way", "c", "C"), ("KeyHall$CharTree", 32, "KeyHall$Way", "low", "LKeyHall$Way;"), ("KeyHall$CharTree", 41, "KeyHall$Way", "equal", "LKeyHall$Way;"), ("KeyHall$CharTree", 35, "KeyHall$Way", "high", "LKeyHall$Way;"), ("KeyHall$CharTree", 38, "KeyHall$Way", "entry", "LKeyHall$Entry;"), ("KeyHall$Scroll", 34, "KeyHall$Rope", "length", "I")]
def nestM_ : List (String × Nat × MethodName) := [("KeyHall", 9, yX2_init), ("KeyHall", 28, yX4_init), ("KeyHall$BitTree", 1, yX3_init), ("KeyHall", 35, yX5_init), ("KeyHall$ByteTree", 3, yX3_init), ("KeyHall$ByteTree", 11, yX6_init), ("KeyHall$RowFan", 3, yX7_init), ("KeyHall", 45, yX9_init), ("KeyHall", 52, yX10_init), ("KeyHall", 65, yX12_init), ("KeyHall$CharTree", 1, yX3_init), ("KeyHall", 268, yX10_sort), ("KeyHall$View", 37, yX2_init), ("KeyHall$Entry", 1, yX2_init), ("KeyHall$RowFan", 34, yX16_init), ("KeyHall$ListFan", 3, yX7_init), ("KeyHall", 209, yX11_up)]
def nestC_ : List (String × String) := [("java/lang/IndexOutOfBoundsException", "java/lang/IndexOutOfBoundsException"), ("java/lang/IllegalArgumentException", "java/lang/IllegalArgumentException"), ("java/lang/IllegalStateException", "java/lang/IllegalStateException"), ("java/util/NoSuchElementException", "java/util/NoSuchElementException")]
def nestD_ : List MethodName := [⟨"KeyHall$Tree", "above", "(LKeyHall$Key;Z)LKeyHall$Entry;"⟩, ⟨"KeyHall$Tree", "below", "(LKeyHall$Key;Z)LKeyHall$Entry;"⟩, ⟨"KeyHall$Tree", "get", "(LKeyHall$Key;)LKeyHall$Entry;"⟩, ⟨"KeyHall$Tree", "put", "(LKeyHall$Entry;)V"⟩, ⟨"KeyHall$Tree", "take", "(LKeyHall$Entry;)V"⟩, ⟨"KeyHall$Fan", "from", "(I)I"⟩, ⟨"KeyHall$Fan", "get", "(I)LKeyHall$Twig;"⟩, ⟨"KeyHall$Fan", "put", "(ILKeyHall$Twig;)LKeyHall$Fan;"⟩, ⟨"KeyHall$Fan", "take", "(I)LKeyHall$Fan;"⟩, ⟨"KeyHall$Fan", "upTo", "(I)I"⟩, ⟨"java/lang/RuntimeException", "<init>", "(Ljava/lang/String;)V"⟩, ⟨"java/lang/Exception", "<init>", "(Ljava/lang/String;)V"⟩, ⟨"java/lang/Throwable", "<init>", "(Ljava/lang/String;)V"⟩]
def nestN_ : List (String × String) := [("java/lang/IllegalArgumentException", "java/lang/IndexOutOfBoundsException"), ("java/lang/IllegalStateException", "java/lang/IndexOutOfBoundsException"), ("java/lang/IllegalStateException", "java/lang/IllegalArgumentException"), ("java/util/NoSuchElementException", "java/lang/IndexOutOfBoundsException"), ("java/util/NoSuchElementException", "java/lang/IllegalStateException")]
def nestS_ : List (Nat × String) := [(71, "no such number"), (121, "not to be put"), (144, "full"), (167, "no key"), (192, "changed"), (201, "not to be dropped"), (207, "no such distance"), (242, "too long")]
def Nst_ (U : State) : Prop := (∀ q ∈ nestF_, va_Nw (.fieldLinkNest q.1 q.2.1 q.2.2.1 q.2.2.2.1 q.2.2.2.2 "KeyHall") U) ∧ (∀ q ∈ nestM_, va_Nw (.methodLinkNest q.1 q.2.1 q.2.2 "KeyHall") U) ∧ (∀ q ∈ nestC_, va_Nw (.castable q.1 q.2) U) ∧ va_AO "KeyHall$Twig" U ∧ va_AO "KeyHall$View" U ∧ va_AO "KeyHall$Rope" U ∧ (∀ q ∈ nestD_, va_Nw (.declares q) U) ∧ (∀ q ∈ nestN_, va_Nc q.1 q.2 U) ∧ (∀ q ∈ nestS_, ∃ a, vk_R "KeyHall" q.1 q.2 a U)
theorem Nst_.moved {s U : State} (hW : s.WarmedH U.vm) (h : Nst_ s) : Nst_ U :=
  ⟨fun q hq => va_Nw.warmF hW (h.1 q hq), fun q hq => va_Nw.warmM hW (h.2.1 q hq), fun q hq => va_Nw.warmC hW (h.2.2.1 q hq), va_AO.moved hW.alike h.2.2.2.1, va_AO.moved hW.alike h.2.2.2.2.1, va_AO.moved hW.alike h.2.2.2.2.2.1, fun q hq => va_Nw.warmD hW (h.2.2.2.2.2.2.1 q hq), fun q hq => va_Nc.moved hW.alike (h.2.2.2.2.2.2.2.1 q hq), fun q hq => by
    obtain ⟨a, ha⟩ := h.2.2.2.2.2.2.2.2 q hq
    exact ⟨a, vk_R.warm hW ha⟩⟩
/-- Rope.LEAST -/
def lea_ (j : Nat) : Int := ([1, 2, 3, 5, 8, 13, 21, 34, 55, 89, 144, 233] : List Int).getD j 0
def LT_ (B t : Nat) (U : State) (H : Heap) : Prop := va_Z "KeyHall$Rope" "LEAST" "[I" (.ref t) (fun q => B ≤ q) U H ∧ va_T .int t 12 (fun j => .int (Int32.ofInt (lea_ j))) (fun q => B ≤ q) U H
/-- a static field's place -/
def LSt_ (B : Nat) (C n d : String) (U : State) (H : Heap) : Prop := ∃ (c : ClassId) (k : Class) (i : Nat) (f : Field) (a : Nat) (cell : Cell), U.vm.findClass C = some c ∧ U.fieldFound? C n d = some (c, k, i, f) ∧ f.isStatic = true ∧ k.statics = some a ∧ H[a]? = some cell ∧ cell.vm.isStatics = true ∧ cell.cls = c ∧ f.slot < cell.slots.size ∧ k.staticTypes[f.slot]? = some f.type ∧ ¬ B ≤ a
theorem LSt_.to {B : Nat} {C n d : String} {s U : State} {H H1 : Heap} (hvm : s.vm.Alike U.vm) (hq : ∀ a : Nat, a < H.size → ¬ B ≤ a → H1[a]? = H[a]?) (h : LSt_ B C n d s H) : LSt_ B C n d U H1 := by
  obtain ⟨c, k, i, f, a, cell, h0, h1, h2, h3, h4, h5, h6, h7, h8, h9⟩ := h
  obtain ⟨k', hi', he⟩ := State.fieldFound?_setVm hvm h1
  exact ⟨c, k', i, f, a, cell, by rw [hvm.findClass]; exact h0, hi', h2, by rw [he]; exact h3, by rw [hq a (Array.getElem?_eq_some_iff.mp h4).1 h9]; exact h4, h5, h6, h7, by rw [he]; exact h8, h9⟩
/-- the statics that are read -/
def LS_ (B : Nat) (U : State) (H : Heap) : Prop := (∃ t, LT_ B t U H) ∧ va_Zq "java/lang/Throwable" "UNASSIGNED_STACK" "[Ljava/lang/StackTraceElement;" (fun q => B ≤ q) U H ∧ va_Zq "java/lang/Throwable" "SUPPRESSED_SENTINEL" "Ljava/util/List;" (fun q => B ≤ q) U H ∧ LSt_ B "java/lang/Throwable" "UNASSIGNED_STACK" "[Ljava/lang/StackTraceElement;" U H ∧ LSt_ B "java/lang/Throwable" "SUPPRESSED_SENTINEL" "Ljava/util/List;" U H
theorem LT_.to {B t : Nat} {s U : State} {H H1 : Heap} (hvm : s.vm.Alike U.vm) (hq : ∀ a : Nat, a < H.size → ¬ B ≤ a → H1[a]? = H[a]?) (h : LT_ B t s H) : LT_ B t U H1 := ⟨va_Z.kept (va_Z.moved hvm h.1) hq, va_T.kept (va_T.moved hvm h.2) hq⟩
theorem LS_.to {B : Nat} {s U : State} {H H1 : Heap} (hvm : s.vm.Alike U.vm) (hq : ∀ a : Nat, a < H.size → ¬ B ≤ a → H1[a]? = H[a]?) (h : LS_ B s H) : LS_ B U H1 := by
  obtain ⟨⟨t, h1⟩, h2, h3, h4, h5⟩ := h
  exact ⟨⟨t, h1.to hvm hq⟩, va_Zq.kept (va_Zq.moved hvm h2) hq, va_Zq.kept (va_Zq.moved hvm h3) hq, h4.to hvm hq, h5.to hvm hq⟩
def KK_ (D : Dx_) (B : Nat) (U : State) : Prop := va_K (D.1, D.2.1) cls_ (tys_ D) U ∧ Nst_ U ∧ LS_ B U U.heap
theorem KK_.moved {D : Dx_} {B : Nat} {s U : State} (hW : s.WarmedH U.vm) (hq : ∀ a : Nat, a < s.heap.size → ¬ B ≤ a → U.heap[a]? = s.heap[a]?) (h : KK_ D B s) : KK_ D B U := ⟨va_K.moved hW.alike h.1, h.2.1.moved hW, h.2.2.to hW.alike hq⟩
/-! locals -/
def Lv_ (la : Array Slot) (ls : List (Option AV)) : Prop := la.size = ls.length ∧ lv_wf la ∧ ∀ (i : Nat) (v : AV), ls[i]? = some (some v) → la[i]? = some (.val (tV v))
def okst_ (ls : List (Option AV)) : Nat → Bool
  | 0 => true
  | i + 1 => match ls[i]? with
    | some (some (.inr (.inr _))) => false
    | _ => true
def asc_ (ls : List (Option AV)) : List (Nat × Value) := (List.range ls.length).filterMap (fun i => match ls[i]? with
  | some (some v) => some (i, tV v)
  | _ => none)
theorem asc_mem {ls : List (Option AV)} {q : Nat × Value} : q ∈ asc_ ls ↔ ∃ v, ls[q.1]? = some (some v) ∧ q.2 = tV v := by
  unfold asc_
  rw [List.mem_filterMap]
  constructor
  · rintro ⟨i, hi, h⟩
    revert h
    split
    · rename_i v hv
      intro h
      cases h
      exact ⟨v, hv, rfl⟩
    · intro h; cases h
  · rintro ⟨v, hv, h⟩
    refine ⟨q.1, List.mem_range.mpr (List.getElem?_eq_some_iff.mp hv).1, ?_⟩
    rw [hv]
    obtain ⟨a, b⟩ := q
    simp only at h
    rw [h]
theorem Lv_.has {la : Array Slot} {ls : List (Option AV)} (h : Lv_ la ls) : lv_has la ls.length (asc_ ls) := ⟨h.1, h.2.1, fun q hq => by
  obtain ⟨v, h1, h2⟩ := asc_mem.mp hq
  rw [h2]
  exact h.2.2 _ _ h1⟩
theorem Lv_.of {la : Array Slot} {ls : List (Option AV)} (h : lv_has la ls.length (asc_ ls)) : Lv_ la ls := ⟨h.1, h.2.1, fun i v hv => h.2.2 (i, tV v) (asc_mem.mpr ⟨v, hv, rfl⟩)⟩
theorem Lv_.set {la' : Array Slot} {ls : List (Option AV)} {i : Nat} {v : AV} (hi : i < ls.length) (hok : okst_ ls i = true) (h' : lv_has la' ls.length ((i, tV v) :: (asc_ ls).filter (fun q => !(q.1 == i) && !(q.1 + 1 == i && q.2.category == 2)))) : Lv_ la' (ls.set i (some v)) := by
  obtain ⟨h1, h2, h3⟩ := h'
  refine ⟨by rw [List.length_set]; exact h1, h2, fun j w hj => ?_⟩
  by_cases hji : j = i
  · subst hji
    rw [List.getElem?_set_self hi] at hj
    cases hj
    exact h3 (j, tV v) List.mem_cons_self
  · rw [List.getElem?_set_ne (Ne.symm hji)] at hj
    refine h3 (j, tV w) (List.mem_cons_of_mem _ (List.mem_filter.mpr ⟨asc_mem.mpr ⟨w, hj, rfl⟩, ?_⟩))
    by_cases hj1 : j + 1 = i
    · subst hj1
      simp only [okst_, hj] at hok
      rw [catA_eq]
      rcases w with x | a | x
      · simp [catA]
      · simp [catA]
      · simp at hok
    · simp [hji, hj1]
theorem Lv_.weak {la : Array Slot} {ls ls' : List (Option AV)} (h : Lv_ la ls) (hl : ls'.length = ls.length) (hw : ∀ (i : Nat) (v : AV), ls'[i]? = some (some v) → ls[i]? = some (some v)) : Lv_ la ls' := ⟨h.1.trans hl.symm, h.2.1, fun i v hv => h.2.2 i v (hw i v hv)⟩
/-! the judgement -/
abbrev Ctx_ : Type := Program × Launch × Env × Room × State × MethodId × Array Value × List Frame × Method × Code × Dx_ × Nat × (State → Prop)
def Z (X : Ctx_) (pc : Nat) (ls : List (Option AV)) (st : List AV) (u : Mem) (cu su : Nat) : Prop := match X with
  | (p, l, e, R, s, m, args, below, meth, c, D, B, F) => ∀ (H : Heap) (locs : List Loc) (la : Array Slot), Rep_ D B u H → va_S (fun q => B ≤ q) s.heap H locs → Lv_ la ls → W p l e R s m args below meth c H locs cu su F (F0 m pc la (st.map tV))
def Rm_ (d mc ms : Nat) : Room := { frames := d, cells := mc, slots := ms, locals := 40 * d }
/-- a method's end: what it answers and the memory behind it -/
def Qc_ (D : Dx_) (B : Nat) (Q : Option AV → Mem → Prop) : Array Value → State → Outcome → State → Prop := fun _ st oc t => (∃ (r : Option AV) (u : Mem), oc = .returned (r.map tV) ∧ Q r u ∧ Rep_ D B u t.heap) ∧ va_F (fun q => B ≤ q) st t
def Ok_ (X : Ctx_) (own : String) (cc : ByteArray) (ret : Option FieldType) (d mc ms : Nat) (Q : Option AV → Mem → Prop) : Prop := match X with
  | (p, l, e, R, s, m, args, below, meth, c, D, B, F) => p.tables.exec = Jvm.exec ∧ c.code = cc ∧ meth.sig.returnType = ret ∧ meth.locks = false ∧ s.vm.findClass own = some m.cls ∧ (∀ w ∈ lw_all, w.before args s = true) ∧ KK_ D B s ∧ B ≤ s.heap.size ∧ R = Rm_ d mc ms ∧ (∀ t, MQ below (Qc_ D B Q) args s mc ms (fun q => B ≤ q) t → F t)
/-- the launch of a context -/
def La_ (X : Ctx_) : Launch := X.2.1
/-- how many locals -/
def Nl_ (X : Ctx_) (n : Nat) : Prop := match X with
  | (_, _, _, _, _, _, _, _, _, c, _, _, _) => c.maxLocals = n
/-- the method is a constructor -/
def In_ (X : Ctx_) : Prop := match X with
  | (_, _, _, _, _, _, _, _, meth, _, _, _, _) => meth.name = "<init>"
/-- A CONTRACT: y called with the arguments av on the memory u returns, with Q of its answer and of the memory behind it; at most mc cells of ms slots are new; d frames are enough -/
def Mt_ (l : Launch) (y : MethodName) (cc : ByteArray) (nL : Nat) (ret : Option FieldType) (d mc ms : Nat) (av : List AV) (u : Mem) (Q : Option AV → Mem → Prop) : Prop :=
  ∀ (D : Dx_) (B : Nat), Met l y (ws_ y cc nL ret) (Rm_ d mc ms) (va_Pc (av.map tV) (fun U => B ≤ U.heap.size ∧ KK_ D B U ∧ Rep_ D B u U.heap)) (Qc_ D B Q) mc ms (fun q => B ≤ q)
/-! entry -/
def entc_ (av : List AV) : List (Option AV) := av.flatMap (fun v => if catA v = 2 then [some v, none] else [some v])
def ent_ (av : List AV) (n : Nat) : List (Option AV) := entc_ av ++ List.replicate (n - (entc_ av).length) none
theorem entc_len (av : List AV) : (entc_ av).length = (lg_sl (av.map tV)).length := by
  induction av with
  | nil => rfl
  | cons v av ih =>
    simp only [entc_, lg_sl, List.map_cons, List.flatMap_cons, List.length_append, catA_eq] at ih ⊢
    rw [ih]
    split <;> rfl
theorem entc_at (av : List AV) : ∀ (i : Nat) (v : AV), (entc_ av)[i]? = some (some v) → (lg_sl (av.map tV))[i]? = some (.val (tV v)) := by
  induction av with
  | nil => intro i v h; simp [entc_] at h
  | cons w av ih =>
    intro i v h
    simp only [entc_, lg_sl, List.map_cons, List.flatMap_cons, catA_eq] at ih h ⊢
    by_cases hc : catA w = 2
    · simp only [hc, if_true] at h ⊢
      rcases i with _ | _ | i
      · simp at h ⊢; rw [h]
      · simp at h
      · simp at h ⊢; exact ih i v (by simpa using h)
    · simp only [hc, if_false] at h ⊢
      rcases i with _ | i
      · simp at h ⊢; rw [h]
      · simp at h ⊢; exact ih i v (by simpa using h)
theorem ent_Lv (av : List AV) {n : Nat} (h : (entc_ av).length ≤ n) : Lv_ ((lg_sl (av.map tV) ++ List.replicate (n - (lg_sl (av.map tV)).length) Slot.unset).toArray) (ent_ av n) := by
  have h0 := lv_entry (av.map tV) (n := n) (by rw [← entc_len]; exact h)
  refine ⟨?_, h0.2.1, fun i v hi => ?_⟩
  · rw [h0.1]
    simp only [ent_, List.length_append, List.length_replicate]
    omega
  · unfold ent_ at hi
    by_cases hl : i < (entc_ av).length
    · rw [List.getElem?_append_left hl] at hi
      have := entc_at av i v hi
      rw [List.getElem?_toArray, List.getElem?_append_left (by rw [← entc_len]; exact hl)]
      exact this
    · rw [List.getElem?_append_right (by omega)] at hi
      have := List.mem_of_getElem? hi
      rw [List.mem_replicate] at this
      cases this.2
theorem Mt_of {l : Launch} {y : MethodName} {cc : ByteArray} {nL : Nat} {ret : Option FieldType} {d mc ms : Nat} {av : List AV} {u : Mem} {Q : Option AV → Mem → Prop} (hy : plainName y.cls = true) (hn : (entc_ av).length ≤ nL)
    (body : ∀ X : Ctx_, Ok_ X y.cls cc ret d mc ms Q → La_ X = l → Nl_ X nL → (y.name = "<init>" → In_ X) → Z X 0 (ent_ av nL) [] u 0 0) : Mt_ l y cc nL ret d mc ms av u Q := by
  intro D B
  refine Met.ofW (cc := cc) (maxL := nL) (ret := ret) hy rfl ?_
  intro p e s m args below meth c s₁ Bd hml hv
  obtain ⟨rfl, hB, hK, hR⟩ := hv
  have hts := atoms_spec (ws := ws_ y cc nL ret) Bd.pre
  have h := body (p, l, e, Rm_ d mc ms, s, m, (av.map tV).toArray, below, meth, c, D, B, MQ below (Qc_ D B Q) (av.map tV).toArray s mc ms (fun q => B ≤ q)) ⟨Bd.exec, Bd.bytes, Bd.returns, Bd.notSynchronized, findClass_of_methodNamed Bd.named, fun w h => hts w (List.mem_cons_of_mem _ h), hK, hB, rfl, fun t h => h⟩ rfl hml (fun hi => (name_of_methodNamed Bd.named Bd.method).1.trans hi)
  rw [lg_entry_eq]
  exact h s.heap [] _ hR va_S.rf (ent_Lv av hn)
