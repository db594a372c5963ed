/-! OWN LAYER, 2 (printed by src/mk08.py): what the tables and the constants say; contracts -/
set_option maxRecDepth 100000
/-- the String constants: class, entry, text, bytes -/
def zSK : List (String × Nat × String × List Int32) := [("BorrowedLuck$Reader", 17, "woman", [119, 111, 109, 97, 110]), ("BorrowedLuck$Reader", 19, "thing", [116, 104, 105, 110, 103]), ("BorrowedLuck$Reader", 21, "sort", [115, 111, 114, 116]), ("BorrowedLuck$Reader", 23, "wear", [119, 101, 97, 114]), ("BorrowedLuck$Reader", 25, "wed", [119, 101, 100]), ("BorrowedLuck$Reader", 27, "has", [104, 97, 115]), ("BorrowedLuck$Reader", 29, "holds", [104, 111, 108, 100, 115]), ("BorrowedLuck$Reader", 35, "widow", [119, 105, 100, 111, 119]), ("BorrowedLuck$Reader", 37, "own", [111, 119, 110]), ("BorrowedLuck$Reader", 39, "blue", [98, 108, 117, 101]), ("BorrowedLuck$Reader", 156, "purse", [112, 117, 114, 115, 101]), ("BorrowedLuck$Reader", 179, "of", [111, 102]), ("BorrowedLuck$Reader", 184, "worn", [119, 111, 114, 110]), ("BorrowedLuck$Reader", 188, "with", [119, 105, 116, 104]), ("BorrowedLuck$Reader", 127, "price", [112, 114, 105, 99, 101]), ("BorrowedLuck$Reader", 131, "love", [108, 111, 118, 101]), ("BorrowedLuck$Reader", 135, "day", [100, 97, 121]), ("BorrowedLuck$Reader", 198, "flow", [102, 108, 111, 119]), ("BorrowedLuck$Reader", 200, "stick", [115, 116, 105, 99, 107]), ("BorrowedLuck$Reader", 202, "if", [105, 102]), ("BorrowedLuck$Reader", 237, "not", [110, 111, 116]), ("BorrowedLuck$Reader", 229, "and", [97, 110, 100]), ("BorrowedLuck$Reader", 231, "or", [111, 114]), ("BorrowedLuckModel", 151, "woman", [119, 111, 109, 97, 110]), ("BorrowedLuckModel", 131, "purse", [112, 117, 114, 115, 101]), ("BorrowedLuckModel", 137, "wed", [119, 101, 100]), ("BorrowedLuckModel", 142, "widow", [119, 105, 100, 111, 119]), ("BorrowedLuckModel", 157, "thing", [116, 104, 105, 110, 103]), ("BorrowedLuckModel", 144, "of", [111, 102]), ("BorrowedLuckModel", 145, "worn", [119, 111, 114, 110]), ("BorrowedLuckModel", 147, "with", [119, 105, 116, 104]), ("BorrowedLuckModel", 149, "blue", [98, 108, 117, 101]), ("BorrowedLuckModel", 162, "price", [112, 114, 105, 99, 101]), ("BorrowedLuckModel", 164, "love", [108, 111, 118, 101]), ("BorrowedLuckModel", 166, "day", [100, 97, 121]), ("BorrowedLuckModel", 218, "flow", [102, 108, 111, 119]), ("BorrowedLuckModel", 173, "wear", [119, 101, 97, 114]), ("BorrowedLuckModel", 220, "stick", [115, 116, 105, 99, 107]), ("BorrowedLuckModel", 222, "if", [105, 102]), ("BorrowedLuckModel", 200, "not", [110, 111, 116]), ("BorrowedLuckModel", 192, "own", [111, 119, 110]), ("BorrowedLuckModel", 171, "sort", [115, 111, 114, 116]), ("BorrowedLuckModel", 175, "has", [104, 97, 115]), ("BorrowedLuckModel", 177, "holds", [104, 111, 108, 100, 115]), ("BorrowedLuckModel", 211, "and", [97, 110, 100]), ("BorrowedLuckModel", 216, "or", [111, 114])]
def zS1 (i : Nat) : String := (zSK.getD i ("", 0, "", [])).1
def zS2 (i : Nat) : Nat := (zSK.getD i ("", 0, "", [])).2.1
def zS3 (i : Nat) : String := (zSK.getD i ("", 0, "", [])).2.2.1
def zS4 (i : Nat) : List Int32 := (zSK.getD i ("", 0, "", [])).2.2.2
theorem zSK_in : ∀ i, i < 46 → Cond.stringRef (zS1 i) (zS2 i) (zS3 i) ∈ lw_tbl := fun i hi => match i, hi with
  | 0, _ => q170
  | 1, _ => q171
  | 2, _ => q172
  | 3, _ => q173
  | 4, _ => q174
  | 5, _ => q175
  | 6, _ => q176
  | 7, _ => q177
  | 8, _ => q178
  | 9, _ => q179
  | 10, _ => q739
  | 11, _ => q752
  | 12, _ => q753
  | 13, _ => q754
  | 14, _ => q755
  | 15, _ => q756
  | 16, _ => q757
  | 17, _ => q812
  | 18, _ => q813
  | 19, _ => q814
  | 20, _ => q825
  | 21, _ => q905
  | 22, _ => q906
  | 23, _ => q1590
  | 24, _ => q1620
  | 25, _ => q1625
  | 26, _ => q1630
  | 27, _ => q1631
  | 28, _ => q1643
  | 29, _ => q1644
  | 30, _ => q1645
  | 31, _ => q1646
  | 32, _ => q1647
  | 33, _ => q1648
  | 34, _ => q1649
  | 35, _ => q1654
  | 36, _ => q1655
  | 37, _ => q1656
  | 38, _ => q1657
  | 39, _ => q1674
  | 40, _ => q1683
  | 41, _ => q1696
  | 42, _ => q1697
  | 43, _ => q1698
  | 44, _ => q1699
  | 45, _ => q1700
  | i + 46, h => absurd h (by omega)
def zTl (E : zEv) : List (ClassId × FieldType) := (List.range 8).map (fun t => (eT E t, zTy t))
/-- words of the tables that don't ride in lists -/
def zNk (w : Cond) : Bool := match w with
  | .fieldLinkNest _ _ _ _ _ _ => true
  | .methodLinkNest _ _ _ _ => true
  | .castable _ _ => true
  | .declares _ => true
  | _ => false
def zNw : List Cond := lw_tbl.filter zNk
theorem zNw_in {w : Cond} (h : w ∈ lw_tbl) (g : zNk w = true) : w ∈ zNw := List.mem_filter.mpr ⟨h, g⟩
theorem zNw_moved {w : Cond} (hw : w ∈ zNw) {s U : State} (hW : s.WarmedH U.vm) (h : va_Nw w s) : va_Nw w U := by
  have hk := (List.mem_filter.mp hw).2
  cases w <;> first | exact va_Nw.warmF hW h | exact va_Nw.warmM hW h | exact va_Nw.warmC hW h | exact va_Nw.warmD hW h | (simp [zNk] at hk)
def yHolds (C : String) : MethodName := ⟨C, "holds", "([I)Z"⟩
def zCond : String := "BorrowedLuck$Cond"
/-- the four classes of conditions -/
def zFl : List String := [RX8, RX9, RX11, RX12]
def zXn (k : Nat) : String := match k with
  | 0 => "java/lang/IllegalArgumentException" | 1 => "java/lang/UnsupportedOperationException" | 2 => "java/lang/IndexOutOfBoundsException" | 3 => "java/util/NoSuchElementException" | 4 => "java/lang/IllegalStateException" | _ => RX6
/-- pairs of exceptions, the first no subclass of the second -/
def zNc : List (Nat × Nat) := [(1, 0), (3, 2), (0, 2), (4, 2), (4, 0)]
def zStr (E : zEv) (U : State) (H : Heap) : Prop := ∀ i, i < 46 → va_O "java/lang/String" (eS E i) (zA E) U H ∧ va_OF "java/lang/String" "coder" "B" (.int 0) (eS E i) (zA E) U H ∧ va_OF "java/lang/String" "value" "[B" (.ref (eV E i)) (eS E i) (zA E) U H ∧ va_T .byte (eV E i) (zS4 i).length (fun j => .int ((zS4 i).getD j 0)) (zA E) U H ∧ vk_R (zS1 i) (zS2 i) (zS3 i) (eS E i) U
def zT (E : zEv) (U : State) (H : Heap) : Prop :=
  va_K (eC E, eI E) zCl (zTl E) U ∧ (∀ w ∈ zNw, va_Nw w U) ∧ (∀ t, 3 ≤ t → t < 8 → ∃ C, zTy t = .object C ∧ va_AO C U) ∧ (∀ C ∈ zFl, va_Fw C (yHolds zCond) (yHolds C) U) ∧ (∀ q ∈ zNc, va_Nc (zXn q.1) (zXn q.2) U) ∧ zStr E U H ∧
  vx_Zq Bundle.tN "UNASSIGNED_STACK" Bundle.steD (zA E) U H ∧ vx_Zq Bundle.tN "SUPPRESSED_SENTINEL" Bundle.listD (zA E) U H ∧ va_Z "java/lang/String" "COMPACT_STRINGS" "Z" (.int 1) (zA E) U H ∧ va_Zq "jdk/internal/util/Preconditions" "SIOOBE_FORMATTER" "Ljava/util/function/BiFunction;" (zA E) U H
theorem zStr.moved {E : zEv} {s U : State} {H : Heap} (hW : s.WarmedH U.vm) (hk : ∀ a : Nat, a < s.heap.size → ¬ zA E a → H[a]? = s.heap[a]?) (h : zStr E s s.heap) : zStr E U H := by
  intro i hi
  obtain ⟨h1, h2, h3, h4, h5⟩ := h i hi
  exact ⟨va_O.moved hW.alike (h1.kept hk), va_OF.moved hW.alike (h2.kept hk), va_OF.moved hW.alike (h3.kept hk), va_T.moved hW.alike (h4.kept hk), vk_R.warm hW h5⟩
theorem zT.moved {E : zEv} {s U : State} {H : Heap} (hW : s.WarmedH U.vm) (hk : ∀ a : Nat, a < s.heap.size → ¬ zA E a → H[a]? = s.heap[a]?) (h : zT E s s.heap) : zT E U H := by
  obtain ⟨h1, h2, h3, h4, h5, h6, h7, h8, h9, h10⟩ := h
  exact ⟨va_K.moved hW.alike h1, fun w hw => zNw_moved hw hW (h2 w hw), fun t ht ht2 => by
    obtain ⟨C, e1, e2⟩ := h3 t ht ht2
    exact ⟨C, e1, va_AO.moved hW.alike e2⟩, fun C hC => va_Fw.moved ⟨by decide, by decide⟩ hW.alike (h4 C hC), fun q hq => va_Nc.moved hW.alike (h5 q hq), h6.moved hW hk,
    vx_Zq.moved hW.alike (h7.kept hk), vx_Zq.moved hW.alike (h8.kept hk), va_Z.moved hW.alike (h9.kept hk), va_Zq.moved hW.alike (h10.kept hk)⟩
theorem zT.calling {E : zEv} {U : State} (h : zT E U U.heap) (g : JFrame) (mk : MethodId) (a : Array Value) : zT E (U.calling g mk a) (U.calling g mk a).heap := by
  have hW : U.WarmedH (U.calling g mk a).vm := State.WarmedH.refl U
  exact h.moved hW (fun _ _ _ => rfl)

/-! ### the judgement -/
abbrev zPk : Type := Program × Launch × Env × Room × State × MethodId × Array Value × List Frame × Method × Code
abbrev zK : Type := zPk × zEv × (zWd → Prop) × (State → Prop)
def kp (K : zK) : Program := K.1.1
def kl (K : zK) : Launch := K.1.2.1
def ke (K : zK) : Env := K.1.2.2.1
def kR (K : zK) : Room := K.1.2.2.2.1
def ks (K : zK) : State := K.1.2.2.2.2.1
def km (K : zK) : MethodId := K.1.2.2.2.2.2.1
def ka (K : zK) : Array Value := K.1.2.2.2.2.2.2.1
def kb (K : zK) : List Frame := K.1.2.2.2.2.2.2.2.1
def kM (K : zK) : Method := K.1.2.2.2.2.2.2.2.2.1
def kc (K : zK) : Code := K.1.2.2.2.2.2.2.2.2.2
def kE (K : zK) : zEv := K.2.1
def kF (K : zK) : zWd → Prop := K.2.2.1
def kQ (K : zK) : State → Prop := K.2.2.2
/-- W at K's method, the counts of cells and slots as they are -/
def zW (K : zK) (H : Heap) (locs : List Loc) (g : JFrame) : Prop := W (kp K) (kl K) (ke K) (kR K) (ks K) (km K) (ka K) (kb K) (kM K) (kc K) H locs (H.size - (ks K).heap.size) (szs H (ks K).heap.size) (kQ K) g
def zSt (K : zK) (T : State) (locs : List Loc) (cells slots : Nat) : Prop := Stand (kp K) (kl K) (ke K) (kR K) (ks K) (km K) (ka K) (kb K) (kM K) (kc K) T locs cells slots
/-- the frame's locals, by place -/
def zHas (K : zK) (ls : Array Slot) (L : List (Nat × Value)) : Prop := lv_has ls (kc K).maxLocals L ∧ ∀ q ∈ L, q.2.category = 1
def zIn (K : zK) (w : zWd) (H : Heap) (locs : List Loc) : Prop := va_S (zA (kE K)) (ks K).heap H locs ∧ zSim (kE K) w H ∧ kF K w
def zY (K : zK) (w : zWd) (L : List (Nat × Value)) (pc : Nat) (st : List Value) : Prop := ∀ (H : Heap) (locs : List Loc) (ls : Array Slot), zIn K w H locs → zHas K ls L → zW K H locs (F0 (km K) pc ls st)
/-- q, of class k, has been thrown over the frame -/
def zThr (K : zK) (H : Heap) (k q : Nat) : Prop := ∃ ce : Cell, H[q]? = some ce ∧ ce.vm = .none ∧ (ks K).vm.findClass (zXn k) = some ce.cls
def zYX (K : zK) (w : zWd) (L : List (Nat × Value)) (pc : Nat) (rest : List Value) (k q : Nat) : Prop := ∀ (H : Heap) (locs : List Loc) (ls : Array Slot), zIn K w H locs → zHas K ls L → zThr K H k q →
  vx_W (kp K) (kl K) (ke K) (kR K) (ks K) (km K) (ka K) (kb K) (kM K) (kc K) H locs (H.size - (ks K).heap.size) (szs H (ks K).heap.size) (kQ K) (F0 (km K) pc ls rest) q
/-- what holds all through a method -/
def zCx (K : zK) (cc : ByteArray) (own : String) (nL d : Nat) : Prop :=
  (kp K).tables.exec = Jvm.exec ∧ (kc K).code = cc ∧ (kc K).maxLocals = nL ∧ (ks K).vm.findClass own = some (km K).cls ∧ (∀ w ∈ lw_all, w.before (ka K) (ks K) = true) ∧ zT (kE K) (ks K) (ks K).heap ∧ (kM K).locks = false ∧ (kl K).stackTraces = false ∧
  d ≤ (kR K).frames ∧ 100 * d ≤ (kR K).locals ∧ eZ (kE K) + zCM ≤ (ks K).heap.size + (kR K).cells ∧ zSM ≤ szs (ks K).heap (eZ (kE K)) + (kR K).slots ∧ eZ (kE K) ≤ (ks K).heap.size ∧ (∀ w a f, kF K w → kF K (putI w a f))
theorem z_tight {p : Program} {l : Launch} {e : Env} {R : Room} {s : State} {m : MethodId} {args : Array Value} {below : List Frame} {meth : Method} {c : Code} {T : State} {locs : List Loc} {cells slots : Nat} (X : Stand p l e R s m args below meth c T locs cells slots) : Stand p l e R s m args below meth c T locs (T.heap.size - s.heap.size) (szs T.heap s.heap.size) := by
  obtain ⟨h1, h2, h3, h4, h5, h6⟩ := X.same
  exact { X with same := ⟨h1, h2, by show T.heap.size ≤ s.heap.size + (T.heap.size - s.heap.size); have h2' : s.heap.size ≤ T.heap.size := h2; omega, h4, Nat.le_refl _, h6⟩ }
theorem zW.of {K : zK} {H : Heap} {locs : List Loc} {cells slots : Nat} {g : JFrame} (k : zW K H locs g) : W (kp K) (kl K) (ke K) (kR K) (ks K) (km K) (ka K) (kb K) (kM K) (kc K) H locs cells slots (kQ K) g := by
  intro T hT X
  subst hT
  exact k T rfl (z_tight X)
theorem z_mono {p : Program} {l : Launch} {e : Env} {R : Room} {s : State} {m : MethodId} {args : Array Value} {below : List Frame} {meth : Method} {c : Code} {H : Heap} {locs : List Loc} {cells slots : Nat} {Q Q' : State → Prop} {g : JFrame} (h : ∀ t, Q t → Q' t) (k : W p l e R s m args below meth c H locs cells slots Q g) : W p l e R s m args below meth c H locs cells slots Q' g := by
  intro T hT X
  obtain ⟨t, a, b⟩ := k T hT X
  exact ⟨t, a, h t b⟩
/-- the room that is left -/
theorem zIn.cells {K : zK} {cc : ByteArray} {own : String} {nL d : Nat} {w : zWd} {H : Heap} {locs : List Loc} (C : zCx K cc own nL d) (h : zIn K w H locs) : (H.size - (ks K).heap.size) + (eZ (kE K) + zCM - wNx w) ≤ (kR K).cells := by
  obtain ⟨-, -, -, -, -, -, -, -, -, -, h1, -⟩ := C
  obtain ⟨hS, ⟨g1, g2, g3, g4, g5, -⟩, -⟩ := h
  have := hS.1
  omega
theorem zIn.slots {K : zK} {cc : ByteArray} {own : String} {nL d : Nat} {w : zWd} {H : Heap} {locs : List Loc} (C : zCx K cc own nL d) (h : zIn K w H locs) (hsz : ∀ (q : Nat) (c0 : Cell), (ks K).heap[q]? = some c0 → ∃ c1, H[q]? = some c1 ∧ c1.slots.size = c0.slots.size) : szs H (ks K).heap.size + (zSM - wSl w) ≤ (kR K).slots := by
  obtain ⟨-, -, -, -, -, -, -, -, -, -, -, h1, h2, -⟩ := C
  obtain ⟨hS, ⟨g1, g2, g3, g4, g5, -⟩, -⟩ := h
  have e1 := szs_split h2 hS.1
  have e2 := szs_split h2 (Nat.le_refl (ks K).heap.size)
  have e3 : szs (ks K).heap (ks K).heap.size = 0 := by
    unfold szs
    rw [List.drop_eq_nil_of_le (by simp)]
    rfl
  have e4 : ((H.toList.take (ks K).heap.size).drop (eZ (kE K))).map (·.slots.size) = (((ks K).heap.toList.take (ks K).heap.size).drop (eZ (kE K))).map (·.slots.size) := by
    rw [List.map_drop, List.map_drop, List.map_take, List.map_take]
    congr 1
    apply List.ext_getElem?
    intro i
    rw [List.getElem?_take, List.getElem?_take]
    by_cases hi : i < (ks K).heap.size
    · rw [if_pos hi, if_pos hi, List.getElem?_map, List.getElem?_map, Array.getElem?_toList, Array.getElem?_toList]
      obtain ⟨c1, h3, h4⟩ := hsz i _ (Array.getElem?_eq_getElem hi)
      rw [h3, Array.getElem?_eq_getElem hi]
      simp [h4]
    · rw [if_neg hi, if_neg hi]
  rw [g2, e4] at e1
  rw [e3] at e2
  omega
