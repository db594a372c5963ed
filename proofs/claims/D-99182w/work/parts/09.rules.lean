/-! OWN LAYER, 3: contracts, a method's entry and end, plain instructions -/
set_option maxRecDepth 100000
def zRm (E : zEv) (d : Nat) (w : zWd) : Room := { frames := d, cells := eZ E + zCM - wNx w, slots := zSM - wSl w, locals := 100 * d }
/-- how a call ends: it returned v in the world w', or threw q of class k -/
def zQ (E : zEv) (F : zWd → Prop) (Q : Option Value → zWd → Prop) (X : Nat → Nat → zWd → Prop) (mc ms : Nat) (s : State) (o : Outcome) (t : State) : Prop :=
  ∃ (w' : zWd) (L : List Loc), zSim E w' t.heap ∧ F w' ∧ va_F (zA E) s t ∧ s.WarmedH t.vm ∧ s.sameButNew ({ t with vm := s.vm } : State) L mc ms ∧ (∀ x ∈ L, zA E x.base) ∧
    ((∃ v, o = .returned v ∧ Q v w') ∨ ∃ (k q : Nat) (ce : Cell), o = .threw q ∧ X k q w' ∧ t.heap[q]? = some ce ∧ ce.vm = .none ∧ s.vm.findClass (zXn k) = some ce.cls)
def zMQ (below : List Frame) (E : zEv) (F : zWd → Prop) (Q : Option Value → zWd → Prop) (X : Nat → Nat → zWd → Prop) (mc ms : Nat) (s : State) : State → Prop := fun t => ∃ o, t.status = .running ∧ Ended t below o ∧ zQ E F Q X mc ms s o t
def zPre (E : zEv) (F : zWd → Prop) (w : zWd) (U : State) : Prop := zSim E w U.heap ∧ F w ∧ zT E U U.heap
/-- a method's contract: from any state whose heap holds the world w -/
def zCt (l : Launch) (E : zEv) (F : zWd → Prop) (y : MethodName) (ws : List Cond) (d : Nat) (av : List Value) (w : zWd) (Q : Option Value → zWd → Prop) (X : Nat → Nat → zWd → Prop) : Prop :=
  MetFree l y (headSpec ws (zRm E d w)) (va_Pc av (zPre E F w)) (fun _ _ _ _ _ => True) (fun _ s o t => zQ E F Q X (eZ E + zCM - wNx w) (zSM - wSl w) s o t)
/-- K's end is that of a contract with the return type ret -/
def zRt (K : zK) (ret : Option FieldType) (Q : Option Value → zWd → Prop) (X : Nat → Nat → zWd → Prop) : Prop :=
  (kM K).sig.returnType = ret ∧ ∃ mc ms : Nat, kQ K = zMQ (kb K) (kE K) (kF K) Q X mc ms (ks K) ∧ eZ (kE K) + zCM - (ks K).heap.size ≤ mc ∧ zSM - szs (ks K).heap (eZ (kE K)) ≤ ms
def zNoH (K : zK) : Prop := ∀ x ∈ (kc K).exceptionTable.toList, False
def qI (P : Int32 → zWd → Prop) : Option Value → zWd → Prop := fun v w => ∃ r, v = some (.int r) ∧ P r w
def qV (P : zWd → Prop) : Option Value → zWd → Prop := fun v w => v = none ∧ P w
def qR (P : Nat → zWd → Prop) : Option Value → zWd → Prop := fun v w => ∃ a, v = some (.ref a) ∧ P a w
def noX : Nat → Nat → zWd → Prop := fun _ _ _ => False
theorem z_sizes {K : zK} {T : State} {locs : List Loc} {cells slots : Nat} (X : zSt K T locs cells slots) : ∀ (q : Nat) (c0 : Cell), (ks K).heap[q]? = some c0 → ∃ c1, T.heap[q]? = some c1 ∧ c1.slots.size = c0.slots.size := by
  intro q c0 h
  obtain ⟨-, -, -, -, -, h6⟩ := X.same
  obtain ⟨c', x1, -, x3, -⟩ := h6 q c0 h
  exact ⟨c', x1, x3⟩
theorem z_body {l : Launch} {E : zEv} {F : zWd → Prop} {y : MethodName} {ws : List Cond} {cc : ByteArray} {maxL d : Nat} {ret : Option FieldType} {av : List Value} {w : zWd} {Q : Option Value → zWd → Prop} {X : Nat → Nat → zWd → Prop}
    (hl : l.stackTraces = false) (hFI : ∀ w a f, F w → F (putI w a f)) (hlen : (lg_sl av).length ≤ maxL) (hcat : ∀ q ∈ lv_args 0 av, q.2.category = 1)
    {p : Program} {e : Env} {s : State} {m : MethodId} {args : Array Value} {below : List Frame} {meth : Method} {c : Code} {s₁ : State} (B : BodyLoose p l y (headSpec ws (zRm E d w)) cc maxL ret e s m args below meth c s₁) (hml : c.maxLocals = maxL) (hts : ∀ w ∈ lw_all, w.before args s = true) (hP : va_Pc av (zPre E F w) args s)
    (body : ∀ K : zK, kE K = E → kF K = F → kc K = c → kl K = l → (kM K).name = y.name → zCx K cc y.cls maxL d → zRt K ret Q X → zY K w (lv_args 0 av) 0 []) :
    ∃ (t : State) (o : Outcome), Steps p.tables e below (s₁.setTop (entryFrame m args maxL)) t ∧ t.status = .running ∧ Ended t below o ∧ zQ E F Q X (eZ E + zCM - wNx w) (zSM - wSl w) s o t := by
  obtain ⟨rfl, hsim, hF, hT⟩ := hP
  have hh0 : s₁.heap = s.heap := by rw [B.state]; rfl
  have hz : s.heap.size = wNx w := hsim.1
  have hsl : szs s.heap (eZ E) = wSl w := hsim.2.1
  have hY := body ((p, l, e, (headSpec ws (zRm E d w)).room, s, m, av.toArray, below, meth, c), E, F, zMQ below E F Q X (eZ E + zCM - wNx w) (zSM - wSl w) s) rfl rfl rfl rfl (name_of_methodNamed B.named B.method).1
    ⟨B.exec, B.bytes, hml, findClass_of_methodNamed B.named, hts, hT, B.notSynchronized, hl, Nat.le_refl _, Nat.le_refl _, by
      show eZ E + zCM ≤ s.heap.size + (eZ E + zCM - wNx w)
      omega, by
      show zSM ≤ szs s.heap (eZ E) + (zSM - wSl w)
      omega, hsim.2.2.1, hFI⟩
    ⟨B.returns, _, _, rfl, by show eZ E + zCM - s.heap.size ≤ _; rw [hz]; exact Nat.le_refl _, by show zSM - szs s.heap (eZ E) ≤ _; rw [hsl]; exact Nat.le_refl _⟩
  have hl0 := lv_entry av (n := maxL) hlen
  have hW := hY s.heap [] _ ⟨va_S.rf, hsim, hF⟩ ⟨by show lv_has _ c.maxLocals _; rw [hml]; exact hl0, hcat⟩
  have hX : Stand p l e (headSpec ws (zRm E d w)).room s m av.toArray below meth c s₁ [] 0 0 := Stand.of_body B
  obtain ⟨t, a1, o, b1, b2, b3⟩ := hW s₁ hh0 (hh0 ▸ z_tight hX)
  refine ⟨t, o, ?_, b1, b2, b3⟩
  rw [lg_entry_eq m av maxL]
  exact a1
/-- the entry of a method without handlers -/
theorem z_met {l : Launch} {E : zEv} {F : zWd → Prop} {y : MethodName} {cc : ByteArray} {maxL d : Nat} {ret : Option FieldType} {av : List Value} {w : zWd} {Q : Option Value → zWd → Prop} {X : Nat → Nat → zWd → Prop}
    (hl : l.stackTraces = false) (hFI : ∀ w a f, F w → F (putI w a f)) (hy : plainName y.cls = true) (hlen : (lg_sl av).length ≤ maxL) (hcat : ∀ q ∈ lv_args 0 av, q.2.category = 1)
    (body : ∀ K : zK, kE K = E → kF K = F → kl K = l → (kM K).name = y.name → zNoH K → zCx K cc y.cls maxL d → zRt K ret Q X → zY K w (lv_args 0 av) 0 []) : zCt l E F y (ws_ y cc maxL ret) d av w Q X := by
  refine MetFree.of_bodyS (code := cc) (maxLocals := maxL) (ret := ret) hy ?_ ?_
  · intro args s m h hn
    obtain ⟨meth, c, h1, h2, h3, h4, h5, h6, -, -⟩ := Cond.code_spec hn (atoms_spec (ws := ws_ y cc maxL ret) h _ List.mem_cons_self)
    exact ⟨meth, c, h1, h2, h3, h4, h5, h6⟩
  · intro p e s m args below meth c s₁ B hml hP _
    have hpre := atoms_spec (ws := ws_ y cc maxL ret) B.pre
    have ht : ∀ x ∈ c.exceptionTable.toList, False := by
      obtain ⟨meth9, c9, h1, h2, -, -, -, -, h7, -⟩ := Cond.code_spec B.named (hpre _ List.mem_cons_self)
      cases Option.some.inj (h1.symm.trans B.method)
      cases Option.some.inj (h2.symm.trans (Stand.of_body B).code)
      intro x hx
      rw [Array.isEmpty_iff.mp h7] at hx
      cases hx
    exact z_body hl hFI hlen hcat B hml (fun w hw => hpre w (List.mem_cons_of_mem _ hw)) hP (fun K h1 h2 h3 h4 h5 h6 h7 => body K h1 h2 h4 h5 (by unfold zNoH; rw [h3]; exact ht) h6 h7)
/-- the entry of a method with handlers -/
theorem z_metH {l : Launch} {E : zEv} {F : zWd → Prop} {y : MethodName} {cc : ByteArray} {maxL d : Nat} {ret : Option FieldType} {hh : List (Nat × Nat × Nat × Nat)} {av : List Value} {w : zWd} {Q : Option Value → zWd → Prop} {X : Nat → Nat → zWd → Prop}
    (hl : l.stackTraces = false) (hFI : ∀ w a f, F w → F (putI w a f)) (hy : plainName y.cls = true) (hlen : (lg_sl av).length ≤ maxL) (hcat : ∀ q ∈ lv_args 0 av, q.2.category = 1)
    (body : ∀ K : zK, kE K = E → kF K = F → kl K = l → (kM K).name = y.name → (kc K).exceptionTable.toList = tableOf hh → zCx K cc y.cls maxL d → zRt K ret Q X → zY K w (lv_args 0 av) 0 []) : zCt l E F y (wsW_ y cc maxL ret hh) d av w Q X := by
  refine MetFree.of_bodyS (code := cc) (maxLocals := maxL) (ret := ret) hy ?_ ?_
  · intro args s m h hn
    obtain ⟨m9, meth, c, hn9, h1, h2, h3, h4, -, h5, h6, -⟩ := Cond.codeWith_spec (atoms_spec (ws := wsW_ y cc maxL ret hh) h _ List.mem_cons_self)
    cases hn.symm.trans hn9
    exact ⟨meth, c, h1, h2, h3, h4, h5, h6⟩
  · intro p e s m args below meth c s₁ B hml hP _
    have hpre := atoms_spec (ws := wsW_ y cc maxL ret hh) B.pre
    have ht : c.exceptionTable.toList = tableOf hh := vx_table (x := y) (y := y) (bytes := cc) (maxL' := maxL) (ret' := ret) B (hpre _ List.mem_cons_self)
    exact z_body hl hFI hlen hcat B hml (fun w hw => hpre w (List.mem_cons_of_mem _ hw)) hP (fun K h1 h2 h3 h4 h5 h6 h7 => body K h1 h2 h4 h5 (by rw [h3]; exact ht) h6 h7)

section Plain
variable {K : zK} {cc : ByteArray} {own : String} {nL d pc : Nat} {w : zWd} {L : List (Nat × Value)} {st : List Value}
/-- the locals with a new value at i -/
def zrp : List (Nat × Value) → Nat → List (Nat × Value)
  | [], _ => []
  | q :: t, i => bif Nat.beq q.1 i then zrp t i else q :: zrp t i
def zset : List (Nat × Value) → Nat → Value → List (Nat × Value)
  | [], i, v => [(i, v)]
  | q :: t, i, v => bif Nat.beq q.1 i then (i, v) :: zrp t i else q :: zset t i v
theorem zrp_mem {q : Nat × Value} {i : Nat} : ∀ {L : List (Nat × Value)}, q ∈ zrp L i → q ∈ L ∧ q.1 ≠ i
  | [], h => by cases h
  | p :: t, h => by
    unfold zrp at h
    cases hb : Nat.beq p.1 i with
    | true =>
      rw [hb] at h
      obtain ⟨h1, h2⟩ := zrp_mem (L := t) h
      exact ⟨List.mem_cons_of_mem _ h1, h2⟩
    | false =>
      rw [hb] at h
      rcases List.mem_cons.mp h with e | e
      · subst e
        exact ⟨List.mem_cons_self, fun z => by rw [z, Nat.beq_refl] at hb; cases hb⟩
      · obtain ⟨h1, h2⟩ := zrp_mem (L := t) e
        exact ⟨List.mem_cons_of_mem _ h1, h2⟩
theorem zset_mem {q : Nat × Value} {i : Nat} {v : Value} : ∀ {L : List (Nat × Value)}, q ∈ zset L i v → q = (i, v) ∨ (q ∈ L ∧ q.1 ≠ i)
  | [], h => by
    rw [zset, List.mem_singleton] at h
    exact Or.inl h
  | p :: t, h => by
    unfold zset at h
    cases hb : Nat.beq p.1 i with
    | true =>
      rw [hb] at h
      rcases List.mem_cons.mp h with e | e
      · exact Or.inl e
      · obtain ⟨h1, h2⟩ := zrp_mem e
        exact Or.inr ⟨List.mem_cons_of_mem _ h1, h2⟩
    | false =>
      rw [hb] at h
      rcases List.mem_cons.mp h with e | e
      · subst e
        exact Or.inr ⟨List.mem_cons_self, fun z => by rw [z, Nat.beq_refl] at hb; cases hb⟩
      · rcases zset_mem (L := t) e with h1 | ⟨h1, h2⟩
        · exact Or.inl h1
        · exact Or.inr ⟨List.mem_cons_of_mem _ h1, h2⟩
theorem zHas.put {ls' : Array Slot} {i : Nat} {v : Value} (hv : v.category = 1) (hc : ∀ q ∈ L, q.2.category = 1) (h : lv_has ls' (kc K).maxLocals ((i, v) :: L.filter (fun q => !(q.1 == i) && !(q.1 + 1 == i && q.2.category == 2)))) : zHas K ls' (zset L i v) := by
  refine ⟨⟨h.1, h.2.1, fun q hq => ?_⟩, fun q hq => ?_⟩
  · rcases zset_mem hq with e | ⟨h1, h2⟩
    · rw [e]
      exact h.2.2 (i, v) List.mem_cons_self
    · refine h.2.2 q (List.mem_cons_of_mem _ (List.mem_filter.mpr ⟨h1, ?_⟩))
      have := hc q h1
      simp [h2, this]
  · rcases zset_mem hq with e | ⟨h1, h2⟩
    · rw [e]; exact hv
    · exact hc q h1
theorem y_iconst (C : zCx K cc own nL d) {n : Int} {v : Int32} (hd : decode cc pc = .ok (.iconst n, 1)) (hv : Int32.ofInt n = v) (k : zY K w L (pc + 1) (.int v :: st)) : zY K w L pc st := fun H locs ls hi hl => lv_iconst C.1 C.2.1 hd hv (k H locs ls hi hl)
theorem y_bipush (C : zCx K cc own nL d) {n : Int} {v : Int32} (hd : decode cc pc = .ok (.bipush n, 2)) (hv : (Int8.ofInt n).toInt32 = v) (k : zY K w L (pc + 2) (.int v :: st)) : zY K w L pc st := fun H locs ls hi hl => lv_bipush C.1 C.2.1 hd hv (k H locs ls hi hl)
theorem y_sipush (C : zCx K cc own nL d) {n : Int} {v : Int32} (hd : decode cc pc = .ok (.sipush n, 3)) (hv : (Int16.ofInt n).toInt32 = v) (k : zY K w L (pc + 3) (.int v :: st)) : zY K w L pc st := fun H locs ls hi hl => lv_sipush C.1 C.2.1 hd hv (k H locs ls hi hl)
theorem y_lconst (C : zCx K cc own nL d) {n : Fin 2} {v : Int64} (hd : decode cc pc = .ok (.lconst n, 1)) (hv : Int64.ofNat (n : Nat) = v) (k : zY K w L (pc + 1) (.long v :: st)) : zY K w L pc st := fun H locs ls hi hl => lv_lconst C.1 C.2.1 hd hv (k H locs ls hi hl)
theorem y_ldc (C : zCx K cc own nL d) {idx : Nat} {v : Int32} (hq : Cond.constant own idx v ∈ lw_all) (hd : decode cc pc = .ok (.ldc idx, 2)) (k : zY K w L (pc + 2) (.int v :: st)) : zY K w L pc st := fun H locs ls hi hl => lv_ldc C.1 C.2.1 C.2.2.2.1 (C.2.2.2.2.1 _ hq) hd (k H locs ls hi hl)
theorem y_ldcS (C : zCx K cc own nL d) {idx i : Nat} (hi9 : i < 46) (h1 : zS1 i = own) (h2 : zS2 i = idx) (hd : decode cc pc = .ok (.ldc idx, 2)) (k : zY K w L (pc + 2) (.ref (eS (kE K) i) :: st)) : zY K w L pc st := fun H locs ls hi hl => by
  have hr := ((C.2.2.2.2.2.1).2.2.2.2.2.1 i hi9).2.2.2.2
  rw [h1, h2] at hr
  exact va_ldcS C.1 C.2.1 C.2.2.2.1 hr hd (k H locs ls hi hl)
theorem zAtL {K : zK} {ls : Array Slot} {L : List (Nat × Value)} (h : zHas K ls L) {k i : Nat} {v : Value} (hk : L[k]? = some (i, v)) : ls[i]? = some (.val v) := lv_at h.1 k hk
theorem y_iload_n (C : zCx K cc own nL d) {n : Fin 4} {i : Nat} {x : Int32} (j : Nat) (hd : decode cc pc = .ok (.iload_n n, 1)) (hi9 : (n : Nat) = i) (hj : L[j]? = some (i, .int x)) (k : zY K w L (pc + 1) (.int x :: st)) : zY K w L pc st := fun H locs ls hi hl => lv_iload_n C.1 C.2.1 hd hi9 (zAtL hl hj) (k H locs ls hi hl)
theorem y_iload (C : zCx K cc own nL d) {i : Nat} {x : Int32} (j : Nat) (hd : decode cc pc = .ok (.iload i, 2)) (hj : L[j]? = some (i, .int x)) (k : zY K w L (pc + 2) (.int x :: st)) : zY K w L pc st := fun H locs ls hi hl => lv_iload C.1 C.2.1 hd (zAtL hl hj) (k H locs ls hi hl)
theorem y_aload_n (C : zCx K cc own nL d) {n : Fin 4} {i : Nat} {x : Nat} (j : Nat) (hd : decode cc pc = .ok (.aload_n n, 1)) (hi9 : (n : Nat) = i) (hj : L[j]? = some (i, .ref x)) (k : zY K w L (pc + 1) (.ref x :: st)) : zY K w L pc st := fun H locs ls hi hl => lv_aload_n C.1 C.2.1 hd hi9 (zAtL hl hj) (k H locs ls hi hl)
theorem y_aload (C : zCx K cc own nL d) {i : Nat} {x : Nat} (j : Nat) (hd : decode cc pc = .ok (.aload i, 2)) (hj : L[j]? = some (i, .ref x)) (k : zY K w L (pc + 2) (.ref x :: st)) : zY K w L pc st := fun H locs ls hi hl => lv_aload C.1 C.2.1 hd (zAtL hl hj) (k H locs ls hi hl)
theorem y_aloadq_n (C : zCx K cc own nL d) {n : Fin 4} {i : Nat} {x : Option Nat} (j : Nat) (hd : decode cc pc = .ok (.aload_n n, 1)) (hi9 : (n : Nat) = i) (hj : L[j]? = some (i, va_rf x)) (k : zY K w L (pc + 1) (va_rf x :: st)) : zY K w L pc st := fun H locs ls hi hl => by
  have h := zAtL hl hj
  cases x with
  | none => exact lv_aload_nN C.1 C.2.1 hd hi9 h (k H locs ls hi hl)
  | some a => exact lv_aload_n C.1 C.2.1 hd hi9 h (k H locs ls hi hl)
theorem y_aloadq (C : zCx K cc own nL d) {i : Nat} {x : Option Nat} (j : Nat) (hd : decode cc pc = .ok (.aload i, 2)) (hj : L[j]? = some (i, va_rf x)) (k : zY K w L (pc + 2) (va_rf x :: st)) : zY K w L pc st := fun H locs ls hi hl => by
  have h := zAtL hl hj
  cases x with
  | none => exact lv_aloadN C.1 C.2.1 hd h (k H locs ls hi hl)
  | some a => exact lv_aload C.1 C.2.1 hd h (k H locs ls hi hl)
theorem y_istore_n (C : zCx K cc own nL d) {n : Fin 4} {i : Nat} {x : Int32} (hd : decode cc pc = .ok (.istore_n n, 1)) (hi9 : (n : Nat) = i) (hn : i < nL) (k : zY K w (zset L i (.int x)) (pc + 1) st) : zY K w L pc (.int x :: st) := fun H locs ls hi hl => lv_istore_n C.1 C.2.1 hd hi9 hl.1 (by rw [C.2.2.1]; exact hn) rfl (fun ls' h' => k H locs ls' hi (zHas.put rfl hl.2 h'))
theorem y_istore (C : zCx K cc own nL d) {i : Nat} {x : Int32} (hd : decode cc pc = .ok (.istore i, 2)) (hn : i < nL) (k : zY K w (zset L i (.int x)) (pc + 2) st) : zY K w L pc (.int x :: st) := fun H locs ls hi hl => lv_istore C.1 C.2.1 hd hl.1 (by rw [C.2.2.1]; exact hn) rfl (fun ls' h' => k H locs ls' hi (zHas.put rfl hl.2 h'))
theorem y_astore_n (C : zCx K cc own nL d) {n : Fin 4} {i : Nat} {x : Nat} (hd : decode cc pc = .ok (.astore_n n, 1)) (hi9 : (n : Nat) = i) (hn : i < nL) (k : zY K w (zset L i (.ref x)) (pc + 1) st) : zY K w L pc (.ref x :: st) := fun H locs ls hi hl => lv_astore_n C.1 C.2.1 hd hi9 hl.1 (by rw [C.2.2.1]; exact hn) rfl (fun ls' h' => k H locs ls' hi (zHas.put rfl hl.2 h'))
theorem y_astore (C : zCx K cc own nL d) {i : Nat} {x : Nat} (hd : decode cc pc = .ok (.astore i, 2)) (hn : i < nL) (k : zY K w (zset L i (.ref x)) (pc + 2) st) : zY K w L pc (.ref x :: st) := fun H locs ls hi hl => lv_astore C.1 C.2.1 hd hl.1 (by rw [C.2.2.1]; exact hn) rfl (fun ls' h' => k H locs ls' hi (zHas.put rfl hl.2 h'))
theorem va_rf_cat (x : Option Nat) : (va_rf x).category = 1 := by cases x <;> rfl
theorem y_astoreq_n (C : zCx K cc own nL d) {n : Fin 4} {i : Nat} {x : Option Nat} (hd : decode cc pc = .ok (.astore_n n, 1)) (hi9 : (n : Nat) = i) (hn : i < nL) (k : zY K w (zset L i (va_rf x)) (pc + 1) st) : zY K w L pc (va_rf x :: st) := fun H locs ls hi hl => by
  cases x with
  | none => exact lv_astore_nN C.1 C.2.1 hd hi9 hl.1 (by rw [C.2.2.1]; exact hn) rfl (fun ls' h' => k H locs ls' hi (zHas.put rfl hl.2 h'))
  | some a => exact lv_astore_n C.1 C.2.1 hd hi9 hl.1 (by rw [C.2.2.1]; exact hn) rfl (fun ls' h' => k H locs ls' hi (zHas.put rfl hl.2 h'))
theorem y_astoreq (C : zCx K cc own nL d) {i : Nat} {x : Option Nat} (hd : decode cc pc = .ok (.astore i, 2)) (hn : i < nL) (k : zY K w (zset L i (va_rf x)) (pc + 2) st) : zY K w L pc (va_rf x :: st) := fun H locs ls hi hl => by
  cases x with
  | none => exact lv_astoreN C.1 C.2.1 hd hl.1 (by rw [C.2.2.1]; exact hn) rfl (fun ls' h' => k H locs ls' hi (zHas.put rfl hl.2 h'))
  | some a => exact lv_astore C.1 C.2.1 hd hl.1 (by rw [C.2.2.1]; exact hn) rfl (fun ls' h' => k H locs ls' hi (zHas.put rfl hl.2 h'))
theorem y_iinc (C : zCx K cc own nL d) {i : Nat} {n : Int} {x v : Int32} (j : Nat) (hd : decode cc pc = .ok (.iinc i n, 3)) (hj : L[j]? = some (i, .int x)) (hv : Int32.ofInt n = v) (hn : i < nL) (k : zY K w (zset L i (.int (x + v))) (pc + 3) st) : zY K w L pc st := fun H locs ls hi hl => lv_iinc C.1 C.2.1 hd hl.1 hj (by rw [hv]) (by rw [C.2.2.1]; exact hn) rfl (fun ls' h' => k H locs ls' hi (zHas.put rfl hl.2 h'))
theorem y_iadd (C : zCx K cc own nL d) {x y : Int32} (hd : decode cc pc = .ok (.iadd, 1)) (k : zY K w L (pc + 1) (.int (x + y) :: st)) : zY K w L pc (.int y :: .int x :: st) := fun H locs ls hi hl => lv_iadd C.1 C.2.1 hd (k H locs ls hi hl)
theorem y_isub (C : zCx K cc own nL d) {x y : Int32} (hd : decode cc pc = .ok (.isub, 1)) (k : zY K w L (pc + 1) (.int (x - y) :: st)) : zY K w L pc (.int y :: .int x :: st) := fun H locs ls hi hl => lv_isub C.1 C.2.1 hd (k H locs ls hi hl)
theorem y_imul (C : zCx K cc own nL d) {x y : Int32} (hd : decode cc pc = .ok (.imul, 1)) (k : zY K w L (pc + 1) (.int (x * y) :: st)) : zY K w L pc (.int y :: .int x :: st) := fun H locs ls hi hl => lv_imul C.1 C.2.1 hd (k H locs ls hi hl)
theorem y_iand (C : zCx K cc own nL d) {x y : Int32} (hd : decode cc pc = .ok (.iand, 1)) (k : zY K w L (pc + 1) (.int (x &&& y) :: st)) : zY K w L pc (.int y :: .int x :: st) := fun H locs ls hi hl => lv_iand C.1 C.2.1 hd (k H locs ls hi hl)
theorem y_ior (C : zCx K cc own nL d) {x y : Int32} (hd : decode cc pc = .ok (.ior, 1)) (k : zY K w L (pc + 1) (.int (x ||| y) :: st)) : zY K w L pc (.int y :: .int x :: st) := fun H locs ls hi hl => lv_ior C.1 C.2.1 hd (k H locs ls hi hl)
theorem y_ixor (C : zCx K cc own nL d) {x y : Int32} (hd : decode cc pc = .ok (.ixor, 1)) (k : zY K w L (pc + 1) (.int (x ^^^ y) :: st)) : zY K w L pc (.int y :: .int x :: st) := fun H locs ls hi hl => lv_ixor C.1 C.2.1 hd (k H locs ls hi hl)
theorem y_idiv (C : zCx K cc own nL d) {x y : Int32} (hd : decode cc pc = .ok (.idiv, 1)) (hne : ¬ y = 0) (k : zY K w L (pc + 1) (.int (x / y) :: st)) : zY K w L pc (.int y :: .int x :: st) := fun H locs ls hi hl => lv_idiv C.1 C.2.1 hd hne (k H locs ls hi hl)
theorem y_irem (C : zCx K cc own nL d) {x y : Int32} (hd : decode cc pc = .ok (.irem, 1)) (hne : ¬ y = 0) (k : zY K w L (pc + 1) (.int (x - x / y * y) :: st)) : zY K w L pc (.int y :: .int x :: st) := fun H locs ls hi hl => lv_irem C.1 C.2.1 hd hne (k H locs ls hi hl)
theorem y_ineg (C : zCx K cc own nL d) {x : Int32} (hd : decode cc pc = .ok (.ineg, 1)) (k : zY K w L (pc + 1) (.int (-x) :: st)) : zY K w L pc (.int x :: st) := fun H locs ls hi hl => lv_ineg C.1 C.2.1 hd (k H locs ls hi hl)
theorem y_ishl (C : zCx K cc own nL d) {x y : Int32} (hd : decode cc pc = .ok (.ishl, 1)) (k : zY K w L (pc + 1) (.int (x <<< (y &&& 31)) :: st)) : zY K w L pc (.int y :: .int x :: st) := fun H locs ls hi hl => lv_ishl C.1 C.2.1 hd (k H locs ls hi hl)
theorem y_ishr (C : zCx K cc own nL d) {x y : Int32} (hd : decode cc pc = .ok (.ishr, 1)) (k : zY K w L (pc + 1) (.int (x >>> (y &&& 31)) :: st)) : zY K w L pc (.int y :: .int x :: st) := fun H locs ls hi hl => lv_ishr C.1 C.2.1 hd (k H locs ls hi hl)
theorem y_iushr (C : zCx K cc own nL d) {x y : Int32} (hd : decode cc pc = .ok (.iushr, 1)) (k : zY K w L (pc + 1) (.int ((x.toUInt32 >>> (y.toUInt32 &&& Int32.toUInt32 31)).toInt32) :: st)) : zY K w L pc (.int y :: .int x :: st) := fun H locs ls hi hl => lv_iushr C.1 C.2.1 hd rfl (k H locs ls hi hl)
theorem y_i2l (C : zCx K cc own nL d) {x : Int32} (hd : decode cc pc = .ok (.i2l, 1)) (k : zY K w L (pc + 1) (.long x.toInt64 :: st)) : zY K w L pc (.int x :: st) := fun H locs ls hi hl => lv_i2l C.1 C.2.1 hd rfl (k H locs ls hi hl)
theorem y_i2b (C : zCx K cc own nL d) {x : Int32} (hd : decode cc pc = .ok (.i2b, 1)) (k : zY K w L (pc + 1) (.int x.toInt8.toInt32 :: st)) : zY K w L pc (.int x :: st) := fun H locs ls hi hl => lv_i2b C.1 C.2.1 hd rfl (k H locs ls hi hl)
theorem y_lcmp (C : zCx K cc own nL d) {x y : Int64} (hd : decode cc pc = .ok (.lcmp, 1)) (k : zY K w L (pc + 1) (.int (lg_cmp x y) :: st)) : zY K w L pc (.long y :: .long x :: st) := fun H locs ls hi hl => W.lcmp C.1 C.2.1 hd (k H locs ls hi hl)
theorem y_dup (C : zCx K cc own nL d) {va : Value} (hd : decode cc pc = .ok (.dup, 1)) (hva : va.category = 1) (k : zY K w L (pc + 1) (va :: va :: st)) : zY K w L pc (va :: st) := fun H locs ls hi hl => lv_dup C.1 C.2.1 hd hva (k H locs ls hi hl)
theorem y_pop (C : zCx K cc own nL d) {va : Value} (hd : decode cc pc = .ok (.pop, 1)) (hva : va.category = 1) (k : zY K w L (pc + 1) st) : zY K w L pc (va :: st) := fun H locs ls hi hl => lv_pop C.1 C.2.1 hd hva (k H locs ls hi hl)
theorem y_dup2 (C : zCx K cc own nL d) {va vb : Value} (hd : decode cc pc = .ok (.dup2, 1)) (hva : va.category = 1) (hvb : vb.category = 1) (k : zY K w L (pc + 1) (va :: vb :: va :: vb :: st)) : zY K w L pc (va :: vb :: st) := fun H locs ls hi hl => lv_dup2_11 C.1 C.2.1 hd hva hvb (k H locs ls hi hl)
theorem y_dup_x1 (C : zCx K cc own nL d) {va vb : Value} (hd : decode cc pc = .ok (.dup_x1, 1)) (hva : va.category = 1) (hvb : vb.category = 1) (k : zY K w L (pc + 1) (va :: vb :: va :: st)) : zY K w L pc (va :: vb :: st) := fun H locs ls hi hl => lv_dup_x1 C.1 C.2.1 hd hva hvb (k H locs ls hi hl)
theorem y_goto (C : zCx K cc own nL d) {off : Int} (tgt : Nat) (hd : decode cc pc = .ok (.goto off, 3)) (ht : (pc : Int) + off = (tgt : Int)) (k : zY K w L tgt st) : zY K w L pc st := fun H locs ls hi hl => lv_goto C.1 C.2.1 hd ht (k H locs ls hi hl)
theorem y_null (C : zCx K cc own nL d) (hd : decode cc pc = .ok (.aconst_null, 1)) (k : zY K w L (pc + 1) (.null :: st)) : zY K w L pc st := fun H locs ls hi hl => lv_null C.1 C.2.1 hd (k H locs ls hi hl)
theorem y_ifnull (C : zCx K cc own nL d) {x : Option Nat} {off : Int} (tgt : Nat) (hd : decode cc pc = .ok (.ifnull off, 3)) (ht : (pc : Int) + off = (tgt : Int)) (kt : x = none → zY K w L tgt st) (kf : ¬ x = none → zY K w L (pc + 3) st) : zY K w L pc (va_rf x :: st) := fun H locs ls hi hl => by
  cases x with
  | none => exact lv_ifnullN C.1 C.2.1 hd ht (kt rfl H locs ls hi hl)
  | some a => exact lv_ifnull C.1 C.2.1 hd (kf (fun h => by cases h) H locs ls hi hl)
theorem y_ifnonnull (C : zCx K cc own nL d) {x : Option Nat} {off : Int} (tgt : Nat) (hd : decode cc pc = .ok (.ifnonnull off, 3)) (ht : (pc : Int) + off = (tgt : Int)) (kt : ¬ x = none → zY K w L tgt st) (kf : x = none → zY K w L (pc + 3) st) : zY K w L pc (va_rf x :: st) := fun H locs ls hi hl => by
  cases x with
  | none => exact lv_ifnonnullN C.1 C.2.1 hd (kf rfl H locs ls hi hl)
  | some a => exact lv_ifnonnull C.1 C.2.1 hd ht (kt (fun h => by cases h) H locs ls hi hl)
theorem y_ifeq (C : zCx K cc own nL d) {x : Int32} {off : Int} (tgt : Nat) (hd : decode cc pc = .ok (.ifCond .eq off, 3)) (ht : (pc : Int) + off = (tgt : Int)) (kt : x = 0 → zY K w L tgt st) (kf : ¬ x = 0 → zY K w L (pc + 3) st) : zY K w L pc (.int x :: st) := fun H locs ls hi hl => lv_if_eq C.1 C.2.1 hd ht (fun h => kt h H locs ls hi hl) (fun h => kf h H locs ls hi hl)
theorem y_ifne (C : zCx K cc own nL d) {x : Int32} {off : Int} (tgt : Nat) (hd : decode cc pc = .ok (.ifCond .ne off, 3)) (ht : (pc : Int) + off = (tgt : Int)) (kt : ¬ x = 0 → zY K w L tgt st) (kf : x = 0 → zY K w L (pc + 3) st) : zY K w L pc (.int x :: st) := fun H locs ls hi hl => lv_if_ne C.1 C.2.1 hd ht (fun h => kt h H locs ls hi hl) (fun h => kf h H locs ls hi hl)
theorem y_iflt (C : zCx K cc own nL d) {x : Int32} {off : Int} (tgt : Nat) (hd : decode cc pc = .ok (.ifCond .lt off, 3)) (ht : (pc : Int) + off = (tgt : Int)) (kt : x < 0 → zY K w L tgt st) (kf : ¬ x < 0 → zY K w L (pc + 3) st) : zY K w L pc (.int x :: st) := fun H locs ls hi hl => lv_if_lt C.1 C.2.1 hd ht (fun h => kt h H locs ls hi hl) (fun h => kf h H locs ls hi hl)
theorem y_ifge (C : zCx K cc own nL d) {x : Int32} {off : Int} (tgt : Nat) (hd : decode cc pc = .ok (.ifCond .ge off, 3)) (ht : (pc : Int) + off = (tgt : Int)) (kt : 0 ≤ x → zY K w L tgt st) (kf : ¬ 0 ≤ x → zY K w L (pc + 3) st) : zY K w L pc (.int x :: st) := fun H locs ls hi hl => lv_if_ge C.1 C.2.1 hd ht (fun h => kt h H locs ls hi hl) (fun h => kf h H locs ls hi hl)
theorem y_ifgt (C : zCx K cc own nL d) {x : Int32} {off : Int} (tgt : Nat) (hd : decode cc pc = .ok (.ifCond .gt off, 3)) (ht : (pc : Int) + off = (tgt : Int)) (kt : 0 < x → zY K w L tgt st) (kf : ¬ 0 < x → zY K w L (pc + 3) st) : zY K w L pc (.int x :: st) := fun H locs ls hi hl => lv_if_gt C.1 C.2.1 hd ht (fun h => kt h H locs ls hi hl) (fun h => kf h H locs ls hi hl)
theorem y_ifle (C : zCx K cc own nL d) {x : Int32} {off : Int} (tgt : Nat) (hd : decode cc pc = .ok (.ifCond .le off, 3)) (ht : (pc : Int) + off = (tgt : Int)) (kt : x ≤ 0 → zY K w L tgt st) (kf : ¬ x ≤ 0 → zY K w L (pc + 3) st) : zY K w L pc (.int x :: st) := fun H locs ls hi hl => lv_if_le C.1 C.2.1 hd ht (fun h => kt h H locs ls hi hl) (fun h => kf h H locs ls hi hl)
theorem y_icmpeq (C : zCx K cc own nL d) {x y : Int32} {off : Int} (tgt : Nat) (hd : decode cc pc = .ok (.if_icmp .eq off, 3)) (ht : (pc : Int) + off = (tgt : Int)) (kt : x = y → zY K w L tgt st) (kf : ¬ x = y → zY K w L (pc + 3) st) : zY K w L pc (.int y :: .int x :: st) := fun H locs ls hi hl => lv_icmp_eq C.1 C.2.1 hd ht (fun h => kt h H locs ls hi hl) (fun h => kf h H locs ls hi hl)
theorem y_icmpne (C : zCx K cc own nL d) {x y : Int32} {off : Int} (tgt : Nat) (hd : decode cc pc = .ok (.if_icmp .ne off, 3)) (ht : (pc : Int) + off = (tgt : Int)) (kt : ¬ x = y → zY K w L tgt st) (kf : x = y → zY K w L (pc + 3) st) : zY K w L pc (.int y :: .int x :: st) := fun H locs ls hi hl => lv_icmp_ne C.1 C.2.1 hd ht (fun h => kt h H locs ls hi hl) (fun h => kf h H locs ls hi hl)
theorem y_icmplt (C : zCx K cc own nL d) {x y : Int32} {off : Int} (tgt : Nat) (hd : decode cc pc = .ok (.if_icmp .lt off, 3)) (ht : (pc : Int) + off = (tgt : Int)) (kt : x < y → zY K w L tgt st) (kf : ¬ x < y → zY K w L (pc + 3) st) : zY K w L pc (.int y :: .int x :: st) := fun H locs ls hi hl => lv_icmp_lt C.1 C.2.1 hd ht (fun h => kt h H locs ls hi hl) (fun h => kf h H locs ls hi hl)
theorem y_icmpge (C : zCx K cc own nL d) {x y : Int32} {off : Int} (tgt : Nat) (hd : decode cc pc = .ok (.if_icmp .ge off, 3)) (ht : (pc : Int) + off = (tgt : Int)) (kt : y ≤ x → zY K w L tgt st) (kf : ¬ y ≤ x → zY K w L (pc + 3) st) : zY K w L pc (.int y :: .int x :: st) := fun H locs ls hi hl => lv_icmp_ge C.1 C.2.1 hd ht (fun h => kt h H locs ls hi hl) (fun h => kf h H locs ls hi hl)
theorem y_icmpgt (C : zCx K cc own nL d) {x y : Int32} {off : Int} (tgt : Nat) (hd : decode cc pc = .ok (.if_icmp .gt off, 3)) (ht : (pc : Int) + off = (tgt : Int)) (kt : y < x → zY K w L tgt st) (kf : ¬ y < x → zY K w L (pc + 3) st) : zY K w L pc (.int y :: .int x :: st) := fun H locs ls hi hl => lv_icmp_gt C.1 C.2.1 hd ht (fun h => kt h H locs ls hi hl) (fun h => kf h H locs ls hi hl)
theorem y_icmple (C : zCx K cc own nL d) {x y : Int32} {off : Int} (tgt : Nat) (hd : decode cc pc = .ok (.if_icmp .le off, 3)) (ht : (pc : Int) + off = (tgt : Int)) (kt : x ≤ y → zY K w L tgt st) (kf : ¬ x ≤ y → zY K w L (pc + 3) st) : zY K w L pc (.int y :: .int x :: st) := fun H locs ls hi hl => lv_icmp_le C.1 C.2.1 hd ht (fun h => kt h H locs ls hi hl) (fun h => kf h H locs ls hi hl)
end Plain
