/-! OWN LAYER, 6: returns, exceptions, the JDK's Math and arraycopy, switches -/
set_option maxRecDepth 100000
section Ends
variable {K : zK} {cc : ByteArray} {own : String} {nL d pc : Nat} {w : zWd} {L : List (Nat × Value)} {st : List Value} {Q : Option Value → zWd → Prop} {X : Nat → Nat → zWd → Prop} {ret : Option FieldType}
theorem z_szs (C : zCx K cc own nL d) {H : Heap} {locs : List Loc} {T : State} {c0 s0 : Nat} (hi : zIn K w H locs) (hT : T.heap = H) (X0 : zSt K T locs c0 s0) : szs H (eZ (kE K)) = szs (ks K).heap (eZ (kE K)) + szs H (ks K).heap.size := by
  have hsz := z_sizes X0
  rw [hT] at hsz
  have h2 : eZ (kE K) ≤ (ks K).heap.size := C.2.2.2.2.2.2.2.2.2.2.2.2.1
  have e1 := szs_split h2 hi.1.1
  have e2 := szs_split h2 (Nat.le_refl (ks K).heap.size)
  have e3 : szs (ks K).heap (ks K).heap.size = 0 := by
    unfold szs
    rw [List.drop_eq_nil_of_le (by simp)]
    rfl
  have e4 : ((H.toList.take (ks K).heap.size).drop (eZ (kE K))).map (·.slots.size) = (((ks K).heap.toList.take (ks K).heap.size).drop (eZ (kE K))).map (·.slots.size) := by
    rw [List.map_drop, List.map_drop, List.map_take, List.map_take]
    congr 1
    apply List.ext_getElem?
    intro i
    rw [List.getElem?_take, List.getElem?_take]
    by_cases hi : i < (ks K).heap.size
    · rw [if_pos hi, if_pos hi, List.getElem?_map, List.getElem?_map, Array.getElem?_toList, Array.getElem?_toList]
      obtain ⟨c1, h3, h4⟩ := hsz i _ (Array.getElem?_eq_getElem hi)
      rw [h3, Array.getElem?_eq_getElem hi]
      simp [h4]
    · rw [if_neg hi, if_neg hi]
  rw [e4] at e1
  rw [e3] at e2
  omega
/-- the counts fit the contract's -/
theorem z_fits (C : zCx K cc own nL d) {mc ms : Nat} (h1 : eZ (kE K) + zCM - (ks K).heap.size ≤ mc) (h2 : zSM - szs (ks K).heap (eZ (kE K)) ≤ ms) {H : Heap} {locs : List Loc} {T : State} {c0 s0 : Nat} (hi : zIn K w H locs) (hT : T.heap = H) (X0 : zSt K T locs c0 s0) : H.size - (ks K).heap.size ≤ mc ∧ szs H (ks K).heap.size ≤ ms := by
  have e1 := z_szs C hi hT X0
  obtain ⟨g1, g2, g3, g4, g5, -⟩ := hi.2.1
  exact ⟨by omega, by omega⟩
def zQc (E : zEv) (F : zWd → Prop) (Q : Option Value → zWd → Prop) : Array Value → State → Outcome → State → Prop := fun _ st o t => ∃ w', zSim E w' t.heap ∧ F w' ∧ va_F (zA E) st t ∧ ∃ v, o = .returned v ∧ Q v w'
theorem z_ret (C : zCx K cc own nL d) (hR : zRt K ret Q X) {H : Heap} {locs : List Loc} {g : JFrame} (hi : zIn K w H locs)
    (k : ∀ mc ms, W (kp K) (kl K) (ke K) (kR K) (ks K) (km K) (ka K) (kb K) (kM K) (kc K) H locs mc ms (MQ (kb K) (zQc (kE K) (kF K) Q) (ka K) (ks K) mc ms (zA (kE K))) g) : zW K H locs g := by
  obtain ⟨hr, mc, ms, hQ, h1, h2⟩ := hR
  refine z_withT fun T hT X0 => ?_
  obtain ⟨f1, f2⟩ := z_fits C h1 h2 hi hT X0
  unfold zW
  rw [hQ]
  refine W.widen f1 f2 (z_mono ?_ (k mc ms))
  rintro t ⟨o, a1, a2, ⟨w', b1, b2, b3, v, rfl, b4⟩, L2, ⟨-, b5, b6⟩, b7⟩
  exact ⟨_, a1, a2, w', L2, b1, b2, b3, b5, b6, b7, Or.inl ⟨v, rfl, b4⟩⟩
theorem z_Qc {H : Heap} {locs : List Loc} (hi : zIn K w H locs) {v : Option Value} (hq : Q v w) : ∀ t : State, t.heap = H → (ks K).WarmedH t.vm → zQc (kE K) (kF K) Q (ka K) (ks K) (.returned v) t := by
  intro t ht _
  exact ⟨w, by rw [ht]; exact hi.2.1, hi.2.2, hi.1.F ht, v, rfl, hq⟩
theorem y_iret (C : zCx K cc own nL d) {ty : FieldType} (hR : zRt K (some ty) Q X) {v : Int32} (hn : narrow ty (.int v) = .int v) (hd : decode cc pc = .ok (.ireturn, 1)) (hq : Q (some (.int v)) w) : zY K w L pc [.int v] := fun H locs ls hi hl =>
  z_ret C hR hi (fun _ _ => W.zret C.1 C.2.1 hR.1 hn (z_Qc hi hq) hi.1.2.2 hd (hlocks := C.2.2.2.2.2.2.1))
theorem y_vret (C : zCx K cc own nL d) (hR : zRt K none Q X) (hd : decode cc pc = .ok (.return_, 1)) (hq : Q none w) : zY K w L pc [] := fun H locs ls hi hl =>
  z_ret C hR hi (fun _ _ => W.vret C.1 C.2.1 hR.1 (z_Qc hi hq) hi.1.2.2 hd (hlocks := C.2.2.2.2.2.2.1))
theorem y_aret (C : zCx K cc own nL d) {ty : FieldType} (hR : zRt K (some ty) Q X) (hty : (∃ n, ty = .object n) ∨ ∃ t, ty = .array t) {a : Nat} (hd : decode cc pc = .ok (.areturn, 1)) (hq : Q (some (.ref a)) w) : zY K w L pc [.ref a] := fun H locs ls hi hl =>
  z_ret C hR hi (fun _ _ => W.aret C.1 C.2.1 hR.1 hty (Or.inr ⟨a, rfl⟩) (z_Qc hi hq) hi.1.2.2 hd (hlocks := C.2.2.2.2.2.2.1))
/-- thrown, and not caught here -/
theorem y_out (C : zCx K cc own nL d) (hN : zNoH K) (hR : zRt K ret Q X) {rest : List Value} {k q : Nat} (hx : X k q w) : zYX K w L pc rest k q := fun H locs ls hi hl hth T hT X0 => by
  obtain ⟨hr, mc, ms, hQ, h1, h2⟩ := hR
  obtain ⟨f1, f2⟩ := z_fits C h1 h2 hi hT X0
  obtain ⟨ce, g1, g2, g3⟩ := hth
  obtain ⟨st1, hrun, hend, hW, hsm⟩ := X0.leaveThrown q (g := F0 (km K) pc ls rest) rfl rfl rfl (fun x hx => (hN x hx).elim) (hlocks := C.2.2.2.2.2.2.1)
  have hh : (T.setFrames (.throwing q :: kb K)).heap = H := hT
  refine ⟨_, st1, ?_⟩
  rw [hQ]
  exact ⟨.threw q, hrun, hend, w, locs, by rw [hh]; exact hi.2.1, hi.2.2, hi.1.F hh, hW, hsm.mono f1 f2, hi.1.2.2, Or.inr ⟨k, q, ce, rfl, hx, by rw [hh]; exact g1, g2, g3⟩⟩
/-- caught by a row of the method's table; the rows ahead don't take it -/
theorem y_catch (C : zCx K cc own nL d) {hh : List (Nat × Nat × Nat × Nat)} (hH : (kc K).exceptionTable.toList = tableOf hh) {rest : List Value} {k q : Nat} (pre : List ExceptionTableEntry) (x : ExceptionTableEntry) (suf : List ExceptionTableEntry) (hsplit : tableOf hh = pre ++ x :: suf)
    (hpass : ∀ z ∈ pre, covers z pc = false ∨ (z.catchType ≠ 0 ∧ ∃ j : Nat, Cond.classLink own z.catchType (zXn j) ∈ lw_all ∧ (k, j) ∈ zNc)) (hx : covers x pc = true) (h0 : x.catchType ≠ 0) (hq : Cond.classLink own x.catchType (zXn k) ∈ lw_all) (hcast : Cond.castable (zXn k) (zXn k) ∈ lw_tbl) (kk : zY K w L x.handlerPc [.ref q]) : zYX K w L pc rest k q := fun H locs ls hi hl hth => by
  obtain ⟨ce, g1, g2, g3⟩ := hth
  exact vx_catch C.2.2.2.1 pre x suf (hH.trans hsplit) (fun z hz => by
    rcases hpass z hz with h | ⟨h1, j, h2, h3⟩
    · exact Or.inl h
    · exact Or.inr ⟨h1, zXn j, C.2.2.2.2.1 _ h2, C.2.2.2.2.2.1.2.2.2.2.1 _ h3⟩) hx h0 (C.2.2.2.2.1 _ hq) (va_Nw.use rfl (C.2.2.2.2.2.1.2.1 _ (zNw_in hcast rfl))) g1 g2 g3 (kk H locs ls hi hl)
/-- 'throw x' of an object of the world -/
theorem y_athrow (C : zCx K cc own nL d) {kk k q : Nat} {T : u_T} {N : Nat} (hc : zCl[kk]? = some (zXn k, T, N)) (hk : kk < 50) (hd : decode cc pc = .ok (.athrow, 1)) (hsh : kF K w → wSh w q = (kk + 1, 0)) (k9 : zYX K w L pc st k q) : zY K w L pc (.ref q :: st) := fun H locs ls hi hl => by
  obtain ⟨r, hr, cell, q1, q2, q3, -⟩ := (hi.2.1.2.2.2.2.2.1 q).1 kk 0 (hsh hi.2.2) hk
  cases Option.some.inj (hr.symm.trans hc)
  exact vx_athrow C.1 C.2.1 hd (k9 H locs ls hi hl ⟨cell, q1, q3, by rw [q2]; exact (C.2.2.2.2.2.1.1.1 kk _ hc).2.1⟩)
end Ends
section Make
variable {p : Program} {l : Launch} {e : Env} {R : Room} {s : State} {m : MethodId} {args : Array Value} {below : List Frame} {meth : Method} {c : Code} {H : Heap} {locs : List Loc} {cells slots : Nat} {Q : State → Prop} {ls : Array Slot} {rest : List Value}
/-- (follows vx_make0) -/
theorem z_make0 {cc : ByteArray} {pc : Nat} (hexec : p.tables.exec = Jvm.exec) (hb : c.code = cc) (hl : l.stackTraces = false) {own cls : String} {names : List String} {ik ic : Nat} {A : Nat → Prop}
    (hown : s.vm.findClass own = some m.cls) (hcls : Bundle.fit cls = true) (hnames : ∀ n ∈ names, Bundle.fit n = true)
    (hk : (Cond.classLink own ik cls).before args s = true) (hini : (Cond.initialized cls).before args s = true) (hat : ∀ w ∈ vx_at0 own ic cls names, w.before args s = true)
    (hgood : ∀ w ∈ Cond.classLink own ik cls :: Cond.initialized cls :: vx_at0 own ic cls names, vx_ot w = true)
    (hU : vx_Zq Bundle.tN "UNASSIGNED_STACK" Bundle.steD A s s.heap) (hN : vx_Zq Bundle.tN "SUPPRESSED_SENTINEL" Bundle.listD A s s.heap) (hS : va_S A s.heap H locs) (hsize : ls.size = c.maxLocals)
    (d0 : decode cc pc = .ok (.new ik, 3)) (d3 : decode cc (pc + 3) = .ok (.dup, 1)) (d4 : decode cc (pc + 4) = .ok (.invokespecial ic, 3))
    (hRframes : names.length + 3 < R.frames) (hRlocals : (rest.map fun v => v.category).sum + (13 * (names.length + 1) + 42) ≤ R.locals) (hRcells : cells + 1 ≤ R.cells) (hRslots : slots + 6 ≤ R.slots)
    (kk : ∀ (H1 : Heap) (ce : Cell), H1[H.size]? = some ce → ce.vm = .none → s.vm.findClass cls = some ce.cls → H1.size = H.size + 1 → (∀ q : Nat, q < H.size → H1[q]? = H[q]?) → szs H1 H.size ≤ 6 → W p l e R s m args below meth c H1 locs (cells + 1) (slots + 6) Q (F0 m (pc + 7) ls (.ref H.size :: rest))) :
    W p l e R s m args below meth c H locs cells slots Q (F0 m pc ls rest) := by
  intro T hT X
  subst hT
  have htr : e.platform.stackTraces = false := (show e.platform.stackTraces = l.stackTraces by rw [X.admits.platform]).trans hl
  have Y := vx_rebase X (R' := { frames := R.frames, locals := R.locals, cells := 1, slots := 6 }) (Nat.le_refl _) (Nat.le_refl _) hRcells hRslots
  obtain ⟨s', hA'⟩ : ∃ z, z = (T.setVm s.vm).setFrames (.invoking m args :: below) := ⟨_, rfl⟩
  rw [← hA'] at Y
  have hvm : s'.vm = s.vm := by rw [hA']; rfl
  have hhp : s'.heap = T.heap := by rw [hA']; rfl
  have hW0 : s.WarmedH s'.vm := by rw [hvm]; exact State.WarmedH.refl s
  have hat' : ∀ w ∈ vx_at0 own ic cls names, w.before args s' = true := fun w hw => vx_ot_at hW0 hvm.symm (hgood w (List.mem_cons_of_mem _ (List.mem_cons_of_mem _ hw))) (hat w hw)
  have hk' : (Cond.classLink own ik cls).before args s' = true := vx_ot_at hW0 hvm.symm (hgood _ List.mem_cons_self) hk
  have hini' : (Cond.initialized cls).before args s' = true := vx_ot_at hW0 hvm.symm (hgood _ (List.mem_cons_of_mem _ List.mem_cons_self)) hini
  have hU' : vx_Zq Bundle.tN "UNASSIGNED_STACK" Bundle.steD A s' s'.heap := by rw [hhp]; exact vx_Zq.moved hW0.alike (hU.kept hS.2.1)
  have hN' : vx_Zq Bundle.tN "SUPPRESSED_SENTINEL" Bundle.listD A s' s'.heap := by rw [hhp]; exact vx_Zq.moved hW0.alike (hN.kept hS.2.1)
  have h : ∀ w ∈ Bundle.ownAtoms0 own ic cls names, w.before args s' = true := vx_own hat' (vx_isRefq hU'.1) (vx_isRefq hN'.1) hU'.2.word hN'.2.word
  have hown' : s'.vm.findClass own = some m.cls := by rw [hvm]; exact hown
  have hins : (Cond.instantiable cls 6).before args s' = true := h _ (by simp [Bundle.ownAtoms0])
  obtain ⟨vm₁, cX, kX, hfX, hkX, -, -, X₁, st1⟩ := Y.newCold hexec (own := own) (C := cls) (index := ik) (n := 6) hown' hk' hins hini'
    (g := F0 m pc ls rest) rfl (by rw [hb]; exact d0) (Nat.le_refl _) (Nat.le_refl _)
  generalize hT1 : (T.setVm vm₁).pushCell { cls := cX, slots := kX.instanceTypes.map defaultValue, vm := .none } = T1 at X₁ st1
  have hcat : (Value.ref T.heap.size).category = 1 := rfl
  have hcellA : T1.heap[T.heap.size]? = some (freshCell cX kX) := by rw [← hT1]; exact State.heap_pushCell_size _ _
  have d3' : decode c.code (pc + 3) = .ok (.dup, 1) := by rw [hb]; exact d3
  obtain ⟨V, ce, L, Z, hL, hlt, hcl9, hvm9, st⟩ := vx_ctorMade0 X₁ hexec htr (own := own) (cls := cls) (names := names) (ic := ic) hown' hcls hnames h (fun x hx => nomatch hx) hfX hkX hcellA (by rw [hhp]; exact Nat.le_refl _)
    (g := { method := m, pc := pc + 4, locals := ls, stack := .ref T.heap.size :: .ref T.heap.size :: rest, locked := none }) rfl hsize (rest := rest) rfl
    (by rw [hb]; exact d4) hRframes (by simp only [List.map_cons, List.sum_cons, hcat]; omega)
  have Z0 := Stand.forget (locs := []) Z (fun y hy => by rw [hL y hy, hhp]; exact Nat.le_refl _)
  obtain ⟨f1, f2⟩ := vx_frame Z0.same
  rw [hhp] at f1 f2
  have hcid : s.vm.findClass cls = some ce.cls := by
    rw [hcl9]
    rw [hvm] at hfX
    exact hfX
  have hh : (V.setCell T.heap.size ce).heap[T.heap.size]? = some ce := heapAt_setCell_self (s := V) ce hlt
  have hs1 : (V.setCell T.heap.size ce).heap.size ≤ T.heap.size + 1 := by
    have h9 : (V.setCell T.heap.size ce).heap.size ≤ s'.heap.size + _ := Z0.same.2.2.1
    rw [hhp] at h9
    omega
  have hs2 : szs (V.setCell T.heap.size ce).heap T.heap.size ≤ 6 := by
    have h9 : szs (V.setCell T.heap.size ce).heap s'.heap.size ≤ _ := Z0.same.2.2.2.2.1
    rw [hhp] at h9
    omega
  subst hA'
  have X5 := vx_back9 X Y Z0
  have X6 : Stand p l e R s m args below meth c (V.setCell T.heap.size ce) locs (cells + 1) (slots + 6) := { X5 with same := X5.same.mono (by omega) (by omega) }
  have hlt2 : T.heap.size < (V.setCell T.heap.size ce).heap.size := (Array.getElem?_eq_some_iff.mp hh).1
  obtain ⟨t, a1, b1⟩ := kk (V.setCell T.heap.size ce).heap ce hh hvm9 hcid (by omega) (fun q hq => f2 q hq (fun z hz => nomatch hz)) hs2 _ rfl X6
  refine ⟨t, st1 _ ?_, b1⟩
  show Steps p.tables e below (T1.setTop { method := m, pc := pc + 3, locals := ls, stack := .ref T.heap.size :: rest, locked := none }) _
  jvm_step X₁.here [X₁.here.top, hexec, d3', Value.category]
  exact st _ a1
end Make
section MakeY
variable {K : zK} {cc : ByteArray} {own : String} {nL d pc : Nat} {w : zWd} {L : List (Nat × Value)} {st : List Value}
/-- what the tables say of the maker's words -/
def zMk (own : String) (ik ic : Nat) (cls : String) (names : List String) : Prop := Bundle.fit cls = true ∧ (∀ n ∈ names, Bundle.fit n = true) ∧ names.length ≤ 4 ∧ Cond.classLink own ik cls ∈ lw_all ∧ Cond.initialized cls ∈ lw_all ∧ (∀ w ∈ vx_at0 own ic cls names, w ∈ lw_tbl) ∧ (vx_at0 own ic cls names).all (fun w => (goodWord w || zNk w) && vx_ot w) = true
/-- new X(): a cell of at most 6 slots -/
theorem y_make0 (C : zCx K cc own nL d) {kk ik ic : Nat} {cls : String} {T9 : u_T} {names : List String} (hc : zCl[kk]? = some (cls, T9, 0)) (hk50 : kk < 50) (hm : zMk own ik ic cls names) (hd8 : 8 ≤ d) (hst : (st.map fun v => v.category).sum ≤ 60) (d0 : decode cc pc = .ok (.new ik, 3)) (d3 : decode cc (pc + 3) = .ok (.dup, 1)) (d4 : decode cc (pc + 4) = .ok (.invokespecial ic, 3)) (hr : zRoom (eZ (kE K)) w 6) (hF : ∀ n, kF K w → kF K (newW w (kk + 1, 0) n)) (k : ∀ n, n ≤ 6 → zY K (newW w (kk + 1, 0) n) L (pc + 7) (.ref (wNx w) :: st)) : zY K w L pc st := fun H locs ls hi hl => by
  refine z_withT fun T0 hT0 X => ?_
  obtain ⟨c1, c2⟩ := hi.room C hT0 X hr
  obtain ⟨hx, hb, hml, hown, hts, hT, hlk, hlt, h8, h9, -⟩ := id C
  obtain ⟨m1, m2, m3, m4, m5, m6, m7⟩ := hm
  have hall := List.all_eq_true.mp m7
  have hat : ∀ w ∈ vx_at0 own ic cls names, w.before (ka K) (ks K) = true := by
    intro w hw
    have h1 := hall w hw
    rw [Bool.and_eq_true, Bool.or_eq_true] at h1
    rcases h1.1 with g | g
    · exact hts w (lw_g (m6 w hw) g)
    · have hn := zNw_in (m6 w hw) g
      have hv := hT.2.1 w hn
      have hon : w.onTables = true := by
        cases w <;> first | rfl | (simp [zNk] at g; done)
      exact va_Nw.use hon hv
  refine z_make0 (cells := H.size - (ks K).heap.size) (slots := szs H (ks K).heap.size) hx hb hlt hown m1 m2 (hts _ m4) (hts _ m5) hat (fun w hw => ?_) hT.2.2.2.2.2.2.1 hT.2.2.2.2.2.2.2.1 hi.1 hl.1.1 d0 d3 d4 (by omega) (by omega) c1 c2 (fun H1 ce e1 e2 e3 e4 e5 e6 => zW.of ?_)
  · rcases List.mem_cons.mp hw with e | hw
    · subst e
      have := (List.mem_filter.mp m4).2
      simp [vx_ot, this]
    · rcases List.mem_cons.mp hw with e | hw
      · subst e
        have := (List.mem_filter.mp m5).2
        simp [vx_ot, this]
      · have h1 := hall w hw
        rw [Bool.and_eq_true] at h1
        exact h1.2
  · obtain ⟨g1, g2, g3, g4, g5, g6, g7⟩ := id hi.2.1
    have hsz : szs H1 (eZ (kE K)) = wSl w + szs H1 H.size := by
      have h1 := szs_split (H := H1) g3 (by omega)
      have h2 := szs_split (H := H) g3 (Nat.le_refl _)
      have h3 : szs H H.size = 0 := by
        unfold szs
        rw [List.drop_eq_nil_of_le (by simp)]
        rfl
      have h4 : H1.toList.take H.size = H.toList.take H.size := by
        apply List.ext_getElem?
        intro i
        rw [List.getElem?_take, List.getElem?_take]
        by_cases hi9 : i < H.size
        · rw [if_pos hi9, if_pos hi9, Array.getElem?_toList, Array.getElem?_toList, e5 i hi9]
        · rw [if_neg hi9, if_neg hi9]
      rw [h4] at h1
      omega
    have hfc := (hT.1.1 kk _ hc).2.1
    have hce : ce.cls = eC (kE K) kk := Option.some.inj (e3.symm.trans hfc)
    rw [g1]
    refine k (szs H1 H.size) e6 H1 locs ls ⟨⟨by rw [e4]; exact Nat.le_succ_of_le hi.1.1, fun q a1 a2 => ?_, hi.1.2.2⟩, ⟨by rw [e4, wNx_new, g1], by rw [wSl_new, hsz], by omega, by rw [wNx_new]; exact hr.1, by rw [wSl_new]; have := hr.2; omega, fun b => ?_, fun b hb => ?_⟩, hF _ hi.2.2⟩ hl
    · rw [e5 q (by have := hi.1.1; omega)]
      exact hi.1.2.1 q a1 a2
    · by_cases hb : b = wNx w
      · subst hb
        refine ⟨fun k' n' hs' hk' => ?_, fun t n' hs' => ?_⟩
        · rw [wSh_new, if_pos rfl] at hs'
          cases hs'
          exact ⟨_, hc, ce, by rw [← g1]; exact e1, hce, e2, fun j hj => absurd hj (Nat.not_lt_zero j)⟩
        · rw [wSh_new, if_pos rfl] at hs'
          have := congrArg Prod.fst hs'
          dsimp only at this
          omega
      · refine (g6 b).kept (fun hk => ?_) (by rw [wSh_new, if_neg hb]) (by rw [wR_new, if_neg hb]) (by rw [wI_new, if_neg hb])
        exact e5 b ((g6 b).lt' hk)
    · by_cases hb2 : b = wNx w
      · rw [hb2, ← g1]; exact g3
      · rw [wSh_new, if_neg hb2] at hb
        exact g7 b hb
end MakeY
