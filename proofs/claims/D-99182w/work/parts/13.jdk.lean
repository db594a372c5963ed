/-! OWN LAYER, 7: the JDK's Math, arraycopy, Strings; switches; calls by inheritance and by interface; the wp words -/
set_option maxRecDepth 100000
section Jdk
variable {K : zK} {cc : ByteArray} {own : String} {nL d pc : Nat} {w : zWd} {L : List (Nat × Value)} {st : List Value}
def zMin (x y : Int32) : Int32 := if y < x then y else x
def zMax (x y : Int32) : Int32 := if x < y then y else x
def zAbs (x : Int32) : Int32 := if 0 ≤ x then x else 0 - x
theorem z_cs (C : zCx K cc own nL d) {H : Heap} {locs : List Loc} {T : State} (hi : zIn K w H locs) (hT : T.heap = H) (X : zSt K T locs (H.size - (ks K).heap.size) (szs H (ks K).heap.size)) : H.size - (ks K).heap.size ≤ (kR K).cells ∧ szs H (ks K).heap.size ≤ (kR K).slots := by
  have h1 := hi.cells C
  have h2 := hi.slots C (fun q c0 h => by rw [← hT]; exact z_sizes X q c0 h)
  exact ⟨by omega, by omega⟩
theorem y_mmin (C : zCx K cc own nL d) (hd1 : 1 ≤ d) {idx : Nat} {x y : Int32} (h1 : Cond.methodLink own idx Lib.Math.min.name ∈ lw_all) (h2 : Cond.static Lib.Math.min.name ∈ lw_all) (h3 : Cond.initialized "java/lang/Math" ∈ lw_all) (h4 : Cond.code Lib.Math.min.name Lib.Math.min.code 2 (some .int) ∈ lw_all) (hst : (st.map fun v => v.category).sum ≤ 60) (hd : decode cc pc = .ok (.invokestatic idx, 3)) (k : zY K w L (pc + 3) (.int (zMin x y) :: st)) : zY K w L pc (.int y :: .int x :: st) := fun H locs ls hi hl => z_withT fun T hT X => by
  obtain ⟨c1, c2⟩ := z_cs C hi hT X
  have h8 := C.2.2.2.2.2.2.2.2.1
  have h9 := C.2.2.2.2.2.2.2.2.2.1
  have hts := C.2.2.2.2.1
  exact va_mmin C.1 C.2.1 (hl.1.1.symm) C.2.2.2.1 (hts _ h1) (hts _ h2) (hts _ h3) (hts _ h4) (by omega) (by omega) c1 c2 hd (k H locs ls hi hl)
theorem y_mmax (C : zCx K cc own nL d) (hd1 : 1 ≤ d) {idx : Nat} {x y : Int32} (h1 : Cond.methodLink own idx Lib.Math.max.name ∈ lw_all) (h2 : Cond.static Lib.Math.max.name ∈ lw_all) (h3 : Cond.initialized "java/lang/Math" ∈ lw_all) (h4 : Cond.code Lib.Math.max.name Lib.Math.max.code 2 (some .int) ∈ lw_all) (hst : (st.map fun v => v.category).sum ≤ 60) (hd : decode cc pc = .ok (.invokestatic idx, 3)) (k : zY K w L (pc + 3) (.int (zMax x y) :: st)) : zY K w L pc (.int y :: .int x :: st) := fun H locs ls hi hl => z_withT fun T hT X => by
  obtain ⟨c1, c2⟩ := z_cs C hi hT X
  have h8 := C.2.2.2.2.2.2.2.2.1
  have h9 := C.2.2.2.2.2.2.2.2.2.1
  have hts := C.2.2.2.2.1
  exact va_mmax C.1 C.2.1 (hl.1.1.symm) C.2.2.2.1 (hts _ h1) (hts _ h2) (hts _ h3) (hts _ h4) (by omega) (by omega) c1 c2 hd (k H locs ls hi hl)
theorem y_mabs (C : zCx K cc own nL d) (hd1 : 1 ≤ d) {idx : Nat} {x : Int32} (h1 : Cond.methodLink own idx Lib.Math.abs.name ∈ lw_all) (h2 : Cond.static Lib.Math.abs.name ∈ lw_all) (h3 : Cond.initialized "java/lang/Math" ∈ lw_all) (h4 : Cond.code Lib.Math.abs.name Lib.Math.abs.code 1 (some .int) ∈ lw_all) (hst : (st.map fun v => v.category).sum ≤ 60) (hd : decode cc pc = .ok (.invokestatic idx, 3)) (k : zY K w L (pc + 3) (.int (zAbs x) :: st)) : zY K w L pc (.int x :: st) := fun H locs ls hi hl => z_withT fun T hT X => by
  obtain ⟨c1, c2⟩ := z_cs C hi hT X
  have h8 := C.2.2.2.2.2.2.2.2.1
  have h9 := C.2.2.2.2.2.2.2.2.2.1
  have hts := C.2.2.2.2.1
  exact va_mabs C.1 C.2.1 (hl.1.1.symm) C.2.2.2.1 (hts _ h1) (hts _ h2) (hts _ h3) (hts _ h4) (by omega) (by omega) c1 c2 hd (k H locs ls hi hl)
/-- a row of an array is known to the kit's own worlds -/
theorem z_P1 {E : zEv} {H : Heap} {a : Nat} {e9 : va_E} (h : va_at (eC E, eI E) zCl (a, e9) H) : va_P (eC E, eI E) zCl [(a, e9)] H := by
  intro k q hk
  have hz : k < 1 := (List.getElem?_eq_some_iff.mp hk).1
  rw [show k = 0 by omega] at hk
  cases hk
  exact h
def zcp {α : Type} (f g : Nat → α) (sp dp n : Nat) : Nat → α := va_cpy f g sp dp n
/-- System.arraycopy of ints -/
theorem y_copyI (C : zCx K cc own nL d) (hd1 : 2 ≤ d) {idx a0 a n0 n1 : Nat} {sp dp n : Int32} (h1 : Cond.methodLink own idx arraycopyName ∈ lw_all) (h2 : Cond.native arraycopyName ∈ lw_all) (h3 : Cond.static arraycopyName ∈ lw_all) (h4 : Cond.initialized "java/lang/System" ∈ lw_all) (hs0 : kF K w → wSh w a0 = (51, n0)) (hs1 : kF K w → wSh w a = (51, n1)) (g1 : ¬ sp < 0) (g2 : ¬ dp < 0) (g3 : ¬ n < 0) (g4 : sp.toNatClampNeg + n.toNatClampNeg ≤ n0) (g5 : dp.toNatClampNeg + n.toNatClampNeg ≤ n1) (hst : (st.map fun v => v.category).sum ≤ 60) (hd : decode cc pc = .ok (.invokestatic idx, 3))
    (k : zY K (putI w a (zcp (wI w a0) (wI w a) sp.toNatClampNeg dp.toNatClampNeg n.toNatClampNeg)) L (pc + 3) st) : zY K w L pc (.int n :: .int dp :: .ref a :: .int sp :: .ref a0 :: st) := fun H locs ls hi hl T hT X => by
  have nn : ∀ z : Int32, ¬ z < 0 → z.toInt = (z.toNatClampNeg : Int) := by
    intro z hz
    have hz0 : (0 : Int) ≤ z.toInt := by
      have := Int32.not_lt.mp hz
      simpa using Int32.le_iff_toInt_le.mp this
    show z.toInt = ((z.toInt.toNat : Nat) : Int)
    omega
  obtain ⟨hc0, hA0, -, -⟩ := z_arr C (t := 0) (by decide) hi (hs0 hi.2.2)
  obtain ⟨hc1, hA1, -, hz1⟩ := z_arr C (t := 0) (by decide) hi (hs1 hi.2.2)
  obtain ⟨-, k0, hk0, cm0, hkk0⟩ := hA0 (fun j => .int (wI w a0 j))
  obtain ⟨-, k1, hk1, cm1, hkk1⟩ := hA1 (fun j => .int (wI w a j))
  have h8 := C.2.2.2.2.2.2.2.2.1
  have h9 := C.2.2.2.2.2.2.2.2.2.1
  have hts := C.2.2.2.2.1
  obtain ⟨vm', X', step⟩ := X.arraycopy C.1 C.2.2.2.1 (hts _ h1) (hts _ h2) (hts _ h3) (hts _ h4) (src := a0) (dst := a) (cs := arrV (eT (kE K) 0) n0 (fun j => .int (wI w a0 j))) (cd := arrV (eT (kE K) 0) n1 (fun j => .int (wI w a j))) (srcPos := sp) (destPos := dp) (n := n) (by rw [hT]; exact hc0) (by rw [hT]; exact hc1)
    (fun _ h => by cases h) (fun _ h => by cases h) (fun h => by cases h) (fun h => by cases h) hk0 hk1 hkk0 hkk1 (by decide) g1 g2 g3
    (by rw [nn sp g1, nn n g3, arrV_size]; omega)
    (by rw [nn dp g2, nn n g3, arrV_size]; omega)
    (fun vm₁ _ i hi9 => by
      rw [Array.getD_eq_getD_getElem?, arrV_read _ _ (by omega)]
      exact ⟨rfl, trivial⟩)
    (g := F0 (km K) pc ls (.int n :: .int dp :: .ref a :: .int sp :: .ref a0 :: st)) rfl hl.1.1 (rest := st) rfl (by rw [C.2.1]; exact hd) (by omega) (by
      show 2 * 0 + _ + _ ≤ _
      have : nativeFrameWords "java/lang/System" "arraycopy" 5 + 11 ≤ 100 := by decide +kernel
      omega)
  have e1 : copied (arrV (eT (kE K) 0) n0 (fun j => Value.int (wI w a0 j))) (arrV (eT (kE K) 0) n1 (fun j => Value.int (wI w a j))) sp dp n = arrV (eT (kE K) 0) n1 (fun j => Value.int (va_cpy (wI w a0) (wI w a) sp.toNatClampNeg dp.toNatClampNeg n.toNatClampNeg j)) := va_copied (fun z : Int32 => Value.int z) (eT (kE K) 0) (eT (kE K) 0) (wI w a0) (wI w a) g4
  rw [e1] at X' step
  have hl9 : a < H.size := (Array.getElem?_eq_some_iff.mp hc1).1
  generalize hH' : ((T.setVm vm').setCell a (arrV (eT (kE K) 0) n1 (fun j => Value.int (va_cpy (wI w a0) (wI w a) sp.toNatClampNeg dp.toNatClampNeg n.toNatClampNeg j)))) = T' at X' step
  have hheap : T'.heap = H.setIfInBounds a (arrV (eT (kE K) 0) n1 (fun j => Value.int (va_cpy (wI w a0) (wI w a) sp.toNatClampNeg dp.toNatClampNeg n.toNatClampNeg j))) := by rw [← hH', ← hT]; rfl
  have oq : ∀ q : Nat, q ≠ a → T'.heap[q]? = H[q]? := fun q hq => by rw [hheap]; simp [Array.getElem?_setIfInBounds, Ne.symm hq]
  have oa : T'.heap[a]? = some (arrV (eT (kE K) 0) n1 (fun j => Value.int (va_cpy (wI w a0) (wI w a) sp.toNatClampNeg dp.toNatClampNeg n.toNatClampNeg j))) := by rw [hheap]; simp [Array.getElem?_setIfInBounds, hl9]
  have oz : T'.heap.size = H.size := by rw [hheap]; simp
  have hcell : zCell (kE K) (putI w a (zcp (wI w a0) (wI w a) sp.toNatClampNeg dp.toNatClampNeg n.toNatClampNeg)) T'.heap a := by
    refine ⟨fun k' n' hs' hk' => ?_, fun t' n' hs' => ?_⟩
    · rw [wSh_putI, hs1 hi.2.2] at hs'
      have := congrArg Prod.fst hs'
      dsimp only at this
      omega
    · rw [wSh_putI, hs1 hi.2.2] at hs'
      have ht' : t' = 0 := by
        have := congrArg Prod.fst hs'
        dsimp only at this
        omega
      have hn' : n' = n1 := (congrArg Prod.snd hs').symm
      subst ht'; subst hn'
      rw [oa]
      congr 2
      funext j
      show Value.int _ = Value.int _
      rw [wI_same]
      rfl
  obtain ⟨t, a1, b1⟩ := k T'.heap _ ls ⟨⟨by rw [oz]; exact hi.1.1, fun q f1 f2 => by
      rw [oq q (fun e => f2 (by rw [e]; exact hz1))]
      exact hi.1.2.1 q f1 f2, fun q hq => by
      rcases List.mem_append.mp hq with h | h
      · exact hi.1.2.2 q h
      · obtain ⟨z, -, hz⟩ := List.mem_map.mp h
        rw [← hz]
        exact hz1⟩, hi.2.1.write oz oq hc1 oa (by rw [arrV_size, arrV_size]) rfl (fun _ => rfl) (fun _ _ => rfl) (fun b hb => wI_ne w _ hb) hcell, C.2.2.2.2.2.2.2.2.2.2.2.2.2 w a _ hi.2.2⟩ hl T' rfl (z_tight X')
  exact ⟨t, step t a1, b1⟩
/-- System.arraycopy of lines: what is copied are Lines -/
theorem y_copyR (C : zCx K cc own nL d) (hd1 : 2 ≤ d) {idx a0 a n0 n1 : Nat} {sp dp n : Int32} (h1 : Cond.methodLink own idx arraycopyName ∈ lw_all) (h2 : Cond.native arraycopyName ∈ lw_all) (h3 : Cond.static arraycopyName ∈ lw_all) (h4 : Cond.initialized "java/lang/System" ∈ lw_all) (hs0 : kF K w → wSh w a0 = (55, n0)) (hs1 : kF K w → wSh w a = (55, n1)) (g1 : ¬ sp < 0) (g2 : ¬ dp < 0) (g3 : ¬ n < 0) (g4 : sp.toNatClampNeg + n.toNatClampNeg ≤ n0) (g5 : dp.toNatClampNeg + n.toNatClampNeg ≤ n1) (hel : ∀ i, i < n.toNatClampNeg → ∀ y, wR w a0 (sp.toNatClampNeg + i) = some y → ∃ kk, zAsg kk 4 ∧ wSh w y = (kk + 1, 0)) (hst : (st.map fun v => v.category).sum ≤ 60) (hd : decode cc pc = .ok (.invokestatic idx, 3))
    (hF : kF K w → kF K (putR w a (zcp (wR w a0) (wR w a) sp.toNatClampNeg dp.toNatClampNeg n.toNatClampNeg))) (k : zY K (putR w a (zcp (wR w a0) (wR w a) sp.toNatClampNeg dp.toNatClampNeg n.toNatClampNeg)) L (pc + 3) st) : zY K w L pc (.int n :: .int dp :: .ref a :: .int sp :: .ref a0 :: st) := fun H locs ls hi hl T hT X => by
  have nn : ∀ z : Int32, ¬ z < 0 → z.toInt = (z.toNatClampNeg : Int) := by
    intro z hz
    have hz0 : (0 : Int) ≤ z.toInt := by
      have := Int32.not_lt.mp hz
      simpa using Int32.le_iff_toInt_le.mp this
    show z.toInt = ((z.toInt.toNat : Nat) : Int)
    omega
  obtain ⟨hc0, hA0, -, -⟩ := z_arr C (t := 4) (by decide) hi (hs0 hi.2.2)
  obtain ⟨hc1, hA1, hRA, hz1⟩ := z_arr C (t := 4) (by decide) hi (hs1 hi.2.2)
  obtain ⟨-, k0, hk0, cm0, hkk0⟩ := hA0 (fun j => va_rf (wR w a0 j))
  obtain ⟨-, k1, hk1, cm1, hkk1⟩ := hA1 (fun j => va_rf (wR w a j))
  obtain ⟨kA, comp, r1, r2, r3, -⟩ := hRA
  cases hk1.symm.trans r1
  obtain rfl : cm1 = comp := by
    have := hkk1.symm.trans r2
    cases this
    rfl
  have h8 := C.2.2.2.2.2.2.2.2.1
  have h9 := C.2.2.2.2.2.2.2.2.2.1
  have hts := C.2.2.2.2.1
  obtain ⟨vm', X', step⟩ := X.arraycopy C.1 C.2.2.2.1 (hts _ h1) (hts _ h2) (hts _ h3) (hts _ h4) (src := a0) (dst := a) (cs := arrV (eT (kE K) 4) n0 (fun j => va_rf (wR w a0 j))) (cd := arrV (eT (kE K) 4) n1 (fun j => va_rf (wR w a j))) (srcPos := sp) (destPos := dp) (n := n) (by rw [hT]; exact hc0) (by rw [hT]; exact hc1)
    (fun _ h => by cases h) (fun _ h => by cases h) (fun h => by cases h) (fun h => by cases h) hk0 hk1 hkk0 hkk1 (by decide) g1 g2 g3
    (by rw [nn sp g1, nn n g3, arrV_size]; omega)
    (by rw [nn dp g2, nn n g3, arrV_size]; omega)
    (fun vm₁ hal i hi9 => by
      rw [Array.getD_eq_getD_getElem?, arrV_read _ _ (by omega)]
      show fits _ (va_rf (wR w a0 (sp.toNatClampNeg + i))) = true ∧ _
      cases hy : wR w a0 (sp.toNatClampNeg + i) with
      | none => exact ⟨rfl, trivial⟩
      | some y =>
        obtain ⟨kk, ⟨CN, T9, N9, CT, hc9, hk50, hty, hca⟩, hsy⟩ := hel i hi9 y hy
        obtain ⟨r, hr, cellV, q1, q2, q3, -⟩ := (hi.2.1.2.2.2.2.2.1 y).1 kk 0 hsy hk50
        cases Option.some.inj (hr.symm.trans hc9)
        obtain ⟨hfc, kC, hkC, hkind⟩ := id (C.2.2.2.2.2.1.1.1 kk _ hc9).2
        have hCT : CT = RX13 := by
          have : zTy 4 = .object RX13 := rfl
          rw [this] at hty
          cases hty
          rfl
        subst hCT
        have hassign : (ks K).vm.assignable (eC (kE K) kk) cm1 = true := by
          rcases hca with e | hca
          · have hcomp : cm1 = eC (kE K) kk := Option.some.inj (r3.symm.trans (by rw [← e]; exact hfc))
            rw [hcomp]
            exact va_assign ⟨hfc, kC, hkC, hkind⟩
          · have h99 := C.2.2.2.2.2.1.2.1 _ (zNw_in hca rfl)
            obtain ⟨c3, c4, hc3, hc4, has⟩ := Cond.castable_spec (va_Nw.use (A := #[]) rfl h99)
            cases Option.some.inj (hc3.symm.trans hfc)
            cases Option.some.inj (hc4.symm.trans r3)
            exact has
        obtain ⟨kE9, hkE, -⟩ := Vm.findClass_spec r3
        obtain ⟨kC', hkC', -⟩ := hal.2.2 _ _ hkC
        obtain ⟨kE', hkE', -⟩ := hal.2.2 _ _ hkE
        refine ⟨rfl, cellV, (show T.heap[y]? = some cellV by rw [hT]; exact q1), (fun q h => by rw [q3] at h; cases h), ⟨kC', by rw [q2]; exact hkC'⟩, ?_, ?_⟩
        · exact ⟨kE', hkE'⟩
        · show vm₁.assignable _ _ = true
          rw [hal.assignable, q2]
          exact hassign)
    (g := F0 (km K) pc ls (.int n :: .int dp :: .ref a :: .int sp :: .ref a0 :: st)) rfl hl.1.1 (rest := st) rfl (by rw [C.2.1]; exact hd) (by omega) (by
      show 2 * 0 + _ + _ ≤ _
      have : nativeFrameWords "java/lang/System" "arraycopy" 5 + 11 ≤ 100 := by decide +kernel
      omega)
  have e1 : copied (arrV (eT (kE K) 4) n0 (fun j => va_rf (wR w a0 j))) (arrV (eT (kE K) 4) n1 (fun j => va_rf (wR w a j))) sp dp n = arrV (eT (kE K) 4) n1 (fun j => va_rf (va_cpy (wR w a0) (wR w a) sp.toNatClampNeg dp.toNatClampNeg n.toNatClampNeg j)) := va_copied (fun z : Option Nat => va_rf z) (eT (kE K) 4) (eT (kE K) 4) (wR w a0) (wR w a) g4
  rw [e1] at X' step
  have hl9 : a < H.size := (Array.getElem?_eq_some_iff.mp hc1).1
  generalize hH' : ((T.setVm vm').setCell a (arrV (eT (kE K) 4) n1 (fun j => va_rf (va_cpy (wR w a0) (wR w a) sp.toNatClampNeg dp.toNatClampNeg n.toNatClampNeg j)))) = T' at X' step
  have hheap : T'.heap = H.setIfInBounds a (arrV (eT (kE K) 4) n1 (fun j => va_rf (va_cpy (wR w a0) (wR w a) sp.toNatClampNeg dp.toNatClampNeg n.toNatClampNeg j))) := by rw [← hH', ← hT]; rfl
  have oq : ∀ q : Nat, q ≠ a → T'.heap[q]? = H[q]? := fun q hq => by rw [hheap]; simp [Array.getElem?_setIfInBounds, Ne.symm hq]
  have oa : T'.heap[a]? = some (arrV (eT (kE K) 4) n1 (fun j => va_rf (va_cpy (wR w a0) (wR w a) sp.toNatClampNeg dp.toNatClampNeg n.toNatClampNeg j))) := by rw [hheap]; simp [Array.getElem?_setIfInBounds, hl9]
  have oz : T'.heap.size = H.size := by rw [hheap]; simp
  have hcell : zCell (kE K) (putR w a (zcp (wR w a0) (wR w a) sp.toNatClampNeg dp.toNatClampNeg n.toNatClampNeg)) T'.heap a := by
    refine ⟨fun k' n' hs' hk' => ?_, fun t' n' hs' => ?_⟩
    · rw [wSh_putR, hs1 hi.2.2] at hs'
      have := congrArg Prod.fst hs'
      dsimp only at this
      omega
    · rw [wSh_putR, hs1 hi.2.2] at hs'
      have ht' : t' = 4 := by
        have := congrArg Prod.fst hs'
        dsimp only at this
        omega
      have hn' : n' = n1 := (congrArg Prod.snd hs').symm
      subst ht'; subst hn'
      rw [oa]
      congr 2
      funext j
      show va_rf _ = va_rf _
      rw [wR_same]
      rfl
  obtain ⟨t, a1, b1⟩ := k T'.heap _ ls ⟨⟨by rw [oz]; exact hi.1.1, fun q f1 f2 => by
      rw [oq q (fun e => f2 (by rw [e]; exact hz1))]
      exact hi.1.2.1 q f1 f2, fun q hq => by
      rcases List.mem_append.mp hq with h | h
      · exact hi.1.2.2 q h
      · obtain ⟨z, -, hz⟩ := List.mem_map.mp h
        rw [← hz]
        exact hz1⟩, hi.2.1.write oz oq hc1 oa (by rw [arrV_size, arrV_size]) rfl (fun _ => rfl) (fun b hb => wR_ne w _ hb) (fun _ _ => rfl) hcell, hF hi.2.2⟩ hl T' rfl (z_tight X')
  exact ⟨t, step t a1, b1⟩
/-- a String constant's fields, and its bytes -/
theorem y_strV (C : zCx K cc own nL d) {idx i : Nat} (hi9 : i < 46) (hq : Cond.fieldLink own idx "java/lang/String" "value" "[B" ∈ lw_all) (hd : decode cc pc = .ok (.getfield idx, 3)) (k : zY K w L (pc + 3) (.ref (eV (kE K) i) :: st)) : zY K w L pc (.ref (eS (kE K) i) :: st) := fun H locs ls hi hl =>
  vk_getf C.1 C.2.1 (C.2.2.2.2.2.1.2.2.2.2.2.1 i hi9).2.2.1 hi.1 C.2.2.2.1 (C.2.2.2.2.1 _ hq) (fun _ h => h) hd (k H locs ls hi hl)
theorem y_strC (C : zCx K cc own nL d) {idx i : Nat} (hi9 : i < 46) (hq : Cond.fieldLink own idx "java/lang/String" "coder" "B" ∈ lw_all) (hd : decode cc pc = .ok (.getfield idx, 3)) (k : zY K w L (pc + 3) (.int 0 :: st)) : zY K w L pc (.ref (eS (kE K) i) :: st) := fun H locs ls hi hl =>
  vk_getf C.1 C.2.1 (C.2.2.2.2.2.1.2.2.2.2.2.1 i hi9).2.1 hi.1 C.2.2.2.1 (C.2.2.2.2.1 _ hq) (fun _ h => h) hd (k H locs ls hi hl)
theorem y_strB (C : zCx K cc own nL d) {i : Nat} {x : Int32} (hi9 : i < 46) (hin : vp_in x (zS4 i).length) (hd : decode cc pc = .ok (.baload, 1)) (k : zY K w L (pc + 1) (.int ((zS4 i).getD x.toNatClampNeg 0) :: st)) : zY K w L pc (.int x :: .ref (eV (kE K) i) :: st) := fun H locs ls hi hl =>
  va_tb C.1 C.2.1 (C.2.2.2.2.2.1.2.2.2.2.2.1 i hi9).2.2.2.1 hi.1 hin rfl hd (k H locs ls hi hl)
theorem y_strL (C : zCx K cc own nL d) {i : Nat} (hi9 : i < 46) (hd : decode cc pc = .ok (.arraylength, 1)) (k : zY K w L (pc + 1) (.int (nI (zS4 i).length) :: st)) : zY K w L pc (.ref (eV (kE K) i) :: st) := fun H locs ls hi hl =>
  va_tlen C.1 C.2.1 (C.2.2.2.2.2.1.2.2.2.2.2.1 i hi9).2.2.2.1 hi.1 rfl hd (k H locs ls hi hl)
theorem y_compact (C : zCx K cc own nL d) {idx : Nat} (hq : Cond.fieldLink own idx "java/lang/String" "COMPACT_STRINGS" "Z" ∈ lw_all) (hd : decode cc pc = .ok (.getstatic idx, 3)) (k : zY K w L (pc + 3) (.int 1 :: st)) : zY K w L pc st := fun H locs ls hi hl =>
  va_gets C.1 C.2.1 C.2.2.2.2.2.1.2.2.2.2.2.2.2.2.1 hi.1 C.2.2.2.1 (C.2.2.2.2.1 _ hq) (fun _ h => h) hd (k H locs ls hi hl)
theorem y_sioobe (C : zCx K cc own nL d) {idx : Nat} (hq : Cond.fieldLink own idx "jdk/internal/util/Preconditions" "SIOOBE_FORMATTER" "Ljava/util/function/BiFunction;" ∈ lw_all) (hd : decode cc pc = .ok (.getstatic idx, 3)) (k : ∀ x, zY K w L (pc + 3) (va_rf x :: st)) : zY K w L pc st := fun H locs ls hi hl => by
  rcases C.2.2.2.2.2.1.2.2.2.2.2.2.2.2.2 with h | ⟨t, h⟩
  · exact va_gets C.1 C.2.1 h hi.1 C.2.2.2.1 (C.2.2.2.2.1 _ hq) (fun _ h => h) hd (k none H locs ls hi hl)
  · exact va_gets C.1 C.2.1 h hi.1 C.2.2.2.1 (C.2.2.2.2.1 _ hq) (fun _ h => h) hd (k (some t) H locs ls hi hl)
/-- i2c -/
theorem y_i2c (C : zCx K cc own nL d) {x : Int32} (hd : decode cc pc = .ok (.i2c, 1)) (k : zY K w L (pc + 1) (.int (x.toUInt32 % 65536).toInt32 :: st)) : zY K w L pc (.int x :: st) := fun H locs ls hi hl => lv_i2c C.1 C.2.1 hd (by first | rfl | exact pk_char9 _) (k H locs ls hi hl)
theorem y_table (C : zCx K cc own nL d) {dflt lo hi : Int} {offs : Array Int} {len : Nat} {x : Int32} (n l0 : Nat) (tg : Nat → Nat) (tD : Nat) (hd : decode cc pc = .ok (.tableswitch dflt lo hi offs, len)) (h1 : lo = (l0 : Int)) (h2 : hi + 1 = ((l0 + n : Nat) : Int)) (hb : l0 + n < 1000) (htg : ∀ i, i < n → ∃ off, offs[i]? = some off ∧ (pc : Int) + off = ((tg i : Nat) : Int)) (htD : (pc : Int) + dflt = ((tD : Nat) : Int))
    (kin : ∀ i, i < n → x = nI (l0 + i) → zY K w L (tg i) st) (kout : (∀ i, i < n → ¬ x = nI (l0 + i)) → zY K w L tD st) : zY K w L pc (.int x :: st) := fun H locs ls hi9 hl => by
  by_cases hlo : x.toInt < lo
  · refine lv_tableOut C.1 C.2.1 hd (Or.inl hlo) htD (kout (fun i hi8 e => ?_) H locs ls hi9 hl)
    rw [e, nI_toInt (by omega)] at hlo
    omega
  · by_cases hhi : hi < x.toInt
    · refine lv_tableOut C.1 C.2.1 hd (Or.inr hhi) htD (kout (fun i hi8 e => ?_) H locs ls hi9 hl)
      rw [e, nI_toInt (by omega)] at hhi
      omega
    · have hi8 : (x.toInt - lo).toNat < n := by omega
      obtain ⟨off, ho, ht⟩ := htg _ hi8
      refine lv_tableIn C.1 C.2.1 hd hlo hhi ho ht (kin _ hi8 ?_ H locs ls hi9 hl)
      apply Int32.toInt_inj.mp
      rw [nI_toInt (by omega)]
      omega
end Jdk
