/-! OWN LAYER, 1: worlds, the heap that holds a world, the judgement zY -/
set_option maxRecDepth 100000
abbrev zWd : Type := (Nat × Nat) × (Nat → Nat × Nat) × (Nat → Nat → Option Nat) × (Nat → Nat → Int32)
def wNx (w : zWd) : Nat := w.1.1
def wSl (w : zWd) : Nat := w.1.2
def wSh (w : zWd) (a : Nat) : Nat × Nat := w.2.1 a
def wR (w : zWd) (a : Nat) : Nat → Option Nat := w.2.2.1 a
def wI (w : zWd) (a : Nat) : Nat → Int32 := w.2.2.2 a
def putI (w : zWd) (a : Nat) (f : Nat → Int32) : zWd := (w.1, w.2.1, w.2.2.1, fun x => if x = a then f else w.2.2.2 x)
def putR (w : zWd) (a : Nat) (f : Nat → Option Nat) : zWd := (w.1, w.2.1, fun x => if x = a then f else w.2.2.1 x, w.2.2.2)
def newW (w : zWd) (k : Nat × Nat) (n : Nat) : zWd := ((w.1.1 + 1, w.1.2 + n), fun x => if x = w.1.1 then k else w.2.1 x, fun x => if x = w.1.1 then fun _ => none else w.2.2.1 x, fun x => if x = w.1.1 then fun _ => 0 else w.2.2.2 x)
theorem wI_put (w : zWd) (a b : Nat) (f : Nat → Int32) : wI (putI w a f) b = if b = a then f else wI w b := rfl
theorem wI_same (w : zWd) (a : Nat) (f : Nat → Int32) : wI (putI w a f) a = f := if_pos rfl
theorem wI_ne (w : zWd) {a b : Nat} (f : Nat → Int32) (h : b ≠ a) : wI (putI w a f) b = wI w b := if_neg h
theorem wR_putI (w : zWd) (a b : Nat) (f : Nat → Int32) : wR (putI w a f) b = wR w b := rfl
theorem wSh_putI (w : zWd) (a b : Nat) (f : Nat → Int32) : wSh (putI w a f) b = wSh w b := rfl
theorem wNx_putI (w : zWd) (a : Nat) (f : Nat → Int32) : wNx (putI w a f) = wNx w := rfl
theorem wSl_putI (w : zWd) (a : Nat) (f : Nat → Int32) : wSl (putI w a f) = wSl w := rfl
theorem wR_put (w : zWd) (a b : Nat) (f : Nat → Option Nat) : wR (putR w a f) b = if b = a then f else wR w b := rfl
theorem wR_same (w : zWd) (a : Nat) (f : Nat → Option Nat) : wR (putR w a f) a = f := if_pos rfl
theorem wR_ne (w : zWd) {a b : Nat} (f : Nat → Option Nat) (h : b ≠ a) : wR (putR w a f) b = wR w b := if_neg h
theorem wI_putR (w : zWd) (a b : Nat) (f : Nat → Option Nat) : wI (putR w a f) b = wI w b := rfl
theorem wSh_putR (w : zWd) (a b : Nat) (f : Nat → Option Nat) : wSh (putR w a f) b = wSh w b := rfl
theorem wNx_putR (w : zWd) (a : Nat) (f : Nat → Option Nat) : wNx (putR w a f) = wNx w := rfl
theorem wSl_putR (w : zWd) (a : Nat) (f : Nat → Option Nat) : wSl (putR w a f) = wSl w := rfl
theorem wNx_new (w : zWd) (k : Nat × Nat) (n : Nat) : wNx (newW w k n) = wNx w + 1 := rfl
theorem wSl_new (w : zWd) (k : Nat × Nat) (n : Nat) : wSl (newW w k n) = wSl w + n := rfl
theorem wSh_new (w : zWd) (k : Nat × Nat) (n b : Nat) : wSh (newW w k n) b = if b = wNx w then k else wSh w b := rfl
theorem wR_new (w : zWd) (k : Nat × Nat) (n b : Nat) : wR (newW w k n) b = if b = wNx w then fun _ => none else wR w b := rfl
theorem wI_new (w : zWd) (k : Nat × Nat) (n b : Nat) : wI (newW w k n) b = if b = wNx w then fun _ => 0 else wI w b := rfl

/-- the classes whose objects a world knows, with their fields -/
def zCl : List vw_C := [(RX1, TX1, 18), (RX2, TX2, 10), (RX3, TX3, 15), (RX4, TX4, 4), (RX5, TX5, 6), (RX6, TX6, 7), (RX7, TX7, 23), (RX8, TX8, 3), (RX9, TX9, 1), (RX10, TX10, 2), (RX11, TX11, 2), (RX12, TX12, 1), (RX14, TX14, 2), (RX15, TX15, 2), (RX16, TX16, 1), ("java/lang/IllegalArgumentException", TX6, 0), ("java/lang/UnsupportedOperationException", TX6, 0), ("java/lang/IndexOutOfBoundsException", TX6, 0), ("java/util/NoSuchElementException", TX6, 0), ("java/lang/IllegalStateException", TX6, 0)]
/-- the fields' types -/
def zFT (k : Nat) : Nat → FieldType := match k with
  | 0 => tyX1 | 1 => tyX2 | 2 => tyX3 | 3 => tyX4 | 4 => tyX5 | 5 => tyX6 | 6 => tyX7 | 7 => tyX8 | 8 => tyX9 | 9 => tyX10 | 10 => tyX11 | 11 => tyX12 | 12 => tyX14 | 13 => tyX15 | _ => tyX16
def zRf (t : FieldType) : Bool := match t with
  | .object _ => true
  | .array _ => true
  | _ => false
/-- the arrays' component types -/
def zTy (t : Nat) : FieldType := match t with
  | 0 => .int | 1 => .byte | 2 => .long | 3 => .object "java/lang/String" | 4 => .object RX13 | 5 => .object RX4 | 6 => .object RX5 | _ => .object RX3
/-- class ids, fields' slots, array classes' ids, the first address of ours, the Strings' and their byte arrays' addresses -/
abbrev zEv : Type := (Nat → ClassId) × (Nat → Nat → Nat) × (Nat → ClassId) × Nat × (Nat → Nat) × (Nat → Nat)
def eC (E : zEv) : Nat → ClassId := E.1
def eI (E : zEv) : Nat → Nat → Nat := E.2.1
def eT (E : zEv) : Nat → ClassId := E.2.2.1
def eZ (E : zEv) : Nat := E.2.2.2.1
def eS (E : zEv) : Nat → Nat := E.2.2.2.2.1
def eV (E : zEv) : Nat → Nat := E.2.2.2.2.2
def zA (E : zEv) : Nat → Prop := fun q => eZ E ≤ q
def fV (k : Nat) (w : zWd) (a j : Nat) : Value := if zRf (zFT k j) = true then va_rf (wR w a j) else .int (wI w a j)
def elV (t : Nat) (w : zWd) (a j : Nat) : Value := match t with
  | 0 => .int (wI w a j)
  | 1 => .int (wI w a j)
  | 2 => .long (wI w a j).toInt64
  | _ => va_rf (wR w a j)
/-- the cell at a: kind (k+1, _): an object of class k; kind (t+51, n): an array of n of type t; kind (0, _): not known -/
def zCell (E : zEv) (w : zWd) (H : Heap) (a : Nat) : Prop :=
  (∀ k n, wSh w a = (k + 1, n) → k < 50 → ∃ r, zCl[k]? = some r ∧ t_OB a (eC E k) r.2.2 (eI E k) H (fun j => fV k w a j)) ∧
  (∀ t n, wSh w a = (t + 51, n) → H[a]? = some (arrV (eT E t) n (fun j => elV t w a j)))
def szs (H : Heap) (n : Nat) : Nat := ((H.toList.drop n).map (·.slots.size)).sum
def zCM : Nat := 600000
def zSM : Nat := 7000000
def zSim (E : zEv) (w : zWd) (H : Heap) : Prop :=
  H.size = wNx w ∧ szs H (eZ E) = wSl w ∧ eZ E ≤ H.size ∧ wNx w ≤ eZ E + zCM ∧ wSl w ≤ zSM ∧ (∀ a, zCell E w H a) ∧ ∀ a, (wSh w a).1 ≠ 0 → eZ E ≤ a
theorem zCell.lt {E : zEv} {w : zWd} {H : Heap} {a : Nat} (h : zCell E w H a) (hk : (wSh w a).1 ≠ 0) (hk2 : (wSh w a).1 ≤ 50 ∨ 51 ≤ (wSh w a).1) : a < H.size := by
  obtain ⟨h1, h2⟩ := h
  rcases hs : wSh w a with ⟨k, n⟩
  rw [hs] at hk hk2
  dsimp only at hk hk2
  by_cases hle : k ≤ 50
  · obtain ⟨j, rfl⟩ : ∃ j, k = j + 1 := ⟨k - 1, by omega⟩
    obtain ⟨r, -, cell, hc, -⟩ := h1 j n hs (by omega)
    exact (Array.getElem?_eq_some_iff.mp hc).1
  · obtain ⟨t, rfl⟩ : ∃ t, k = t + 51 := ⟨k - 51, by omega⟩
    exact (Array.getElem?_eq_some_iff.mp (h2 t n hs)).1
theorem zCell.lt' {E : zEv} {w : zWd} {H : Heap} {a : Nat} (h : zCell E w H a) (hk : (wSh w a).1 ≠ 0) : a < H.size := h.lt hk (by omega)
/-- the cell stays where the heap's cell, the shape and the contents stay -/
theorem zCell.kept {E : zEv} {w w' : zWd} {H H' : Heap} {a : Nat} (h : zCell E w H a) (hH : (wSh w a).1 ≠ 0 → H'[a]? = H[a]?) (h1 : wSh w' a = wSh w a) (h2 : wR w' a = wR w a) (h3 : wI w' a = wI w a) : zCell E w' H' a := by
  have e1 : ∀ k j, fV k w' a j = fV k w a j := fun k j => by simp only [fV, h2, h3]
  have e2 : ∀ t j, elV t w' a j = elV t w a j := fun t j => by unfold elV; split <;> simp only [h2, h3]
  refine ⟨fun k n hs hk => ?_, fun t n hs => ?_⟩
  · rw [h1] at hs
    obtain ⟨r, hr, hob⟩ := h.1 k n hs hk
    refine ⟨r, hr, ?_⟩
    have := hob.kept (hH (by rw [hs]; exact Nat.succ_ne_zero k))
    exact this.to fun j _ => (e1 k j).symm
  · rw [h1] at hs
    rw [hH (by rw [hs]; exact Nat.succ_ne_zero _), h.2 t n hs]
    congr 2
    funext j
    exact (e2 t j).symm
theorem szs_push (H : Heap) (n : Nat) (c : Cell) (hn : n ≤ H.size) : szs (H.push c) n = szs H n + c.slots.size := by
  unfold szs
  rw [Array.toList_push, List.drop_append_of_le_length (by simpa using hn)]
  simp
theorem szs_same {H H' : Heap} {n : Nat} (hz : H'.size = H.size) (h : ∀ q c', n ≤ q → H'[q]? = some c' → ∃ c, H[q]? = some c ∧ c'.slots.size = c.slots.size) : szs H' n = szs H n := by
  unfold szs
  congr 1
  apply List.ext_getElem?
  intro i
  rw [List.getElem?_map, List.getElem?_map, List.getElem?_drop, List.getElem?_drop, Array.getElem?_toList, Array.getElem?_toList]
  cases hc : H'[n + i]? with
  | none =>
    have h1 : H'.size ≤ n + i := by simpa using hc
    have h2 : H[n + i]? = none := by simpa using (by omega : H.size ≤ n + i)
    rw [h2]
  | some c' =>
    obtain ⟨c, h1, h2⟩ := h (n + i) c' (Nat.le_add_right _ _) hc
    rw [h1]
    simp [h2]
theorem szs_split {H : Heap} {a b : Nat} (hab : a ≤ b) (hb : b ≤ H.size) : szs H a = (((H.toList.take b).drop a).map (·.slots.size)).sum + szs H b := by
  unfold szs
  have h := sum_drop_split (H.toList.map (·.slots.size)) hab (by simpa using hb)
  rw [List.map_drop, List.map_drop, h, ← List.map_take]
  simp [List.map_drop]
/-- one cell has been written: same size of it, the rest as it was -/
theorem zSim.write {E : zEv} {w w' : zWd} {H H' : Heap} {a : Nat} (h : zSim E w H) (hz : H'.size = H.size) (oq : ∀ q : Nat, q ≠ a → H'[q]? = H[q]?) {c c' : Cell} (hc : H[a]? = some c) (hc' : H'[a]? = some c') (hs : c'.slots.size = c.slots.size)
    (hw : w'.1 = w.1) (hsh : ∀ b, wSh w' b = wSh w b) (hR : ∀ b, b ≠ a → wR w' b = wR w b) (hI : ∀ b, b ≠ a → wI w' b = wI w b) (hcell : zCell E w' H' a) : zSim E w' H' := by
  obtain ⟨g1, g2, g3, g4, g5, g6, g7⟩ := h
  have n1 : wNx w' = wNx w := by unfold wNx; rw [hw]
  have n2 : wSl w' = wSl w := by unfold wSl; rw [hw]
  refine ⟨by rw [hz, n1]; exact g1, ?_, by rw [hz]; exact g3, by rw [n1]; exact g4, by rw [n2]; exact g5, fun b => ?_, fun b hb => g7 b (by rw [← hsh]; exact hb)⟩
  · rw [n2, ← g2]
    refine szs_same hz fun q d' _ hd' => ?_
    by_cases hq : q = a
    · subst hq
      cases hd'.symm.trans hc'
      exact ⟨c, hc, hs⟩
    · exact ⟨d', by rw [← oq q hq]; exact hd', rfl⟩
  · by_cases hb : b = a
    · subst hb; exact hcell
    · exact (g6 b).kept (fun _ => oq b hb) (hsh b) (hR b hb) (hI b hb)
/-- a cell has been added -/
theorem zSim.grow {E : zEv} {w : zWd} {H H' : Heap} {k : Nat × Nat} {n : Nat} (h : zSim E w H) {c' : Cell} (hH : H' = H.push c') (hs : c'.slots.size = n) (h4 : wNx w + 1 ≤ eZ E + zCM) (h5 : wSl w + n ≤ zSM) (hcell : zCell E (newW w k n) H' (wNx w)) : zSim E (newW w k n) H' := by
  obtain ⟨g1, g2, g3, g4, g5, g6, g7⟩ := h
  subst hH
  have n1 : wNx (newW w k n) = wNx w + 1 := rfl
  have n2 : wSl (newW w k n) = wSl w + n := rfl
  refine ⟨by rw [Array.size_push, n1, g1], by rw [szs_push _ _ _ g3, n2, g2, hs], by rw [Array.size_push]; omega, by rw [n1]; exact h4, by rw [n2]; exact h5, fun b => ?_, fun b hb => ?_⟩
  · by_cases hb : b = wNx w
    · subst hb; exact hcell
    · refine (g6 b).kept (fun hk => ?_) (by rw [wSh_new, if_neg hb]) (by rw [wR_new, if_neg hb]) (by rw [wI_new, if_neg hb])
      have := (g6 b).lt' hk
      rw [Array.getElem?_push, if_neg (Nat.ne_of_lt this)]
  · by_cases hb2 : b = wNx w
    · rw [hb2, ← g1]; exact g3
    · rw [wSh_new, if_neg hb2] at hb
      exact g7 b hb
