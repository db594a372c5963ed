/-! OWN LAYER, 5: calls, returns, throws -/
set_option maxRecDepth 100000
section Back
variable {l : Launch} {R : Room} {p : Program} {e : Env} {below : List Frame} {s : State} {sargs : Array Value} {y : MethodName} {len W9 : Nat}
def zPreP (R : Room) (E : zEv) (F : zWd → Prop) (av : List Value) (w : zWd) : Pt → Array Value → Prop := fun A a => A.cells + (eZ E + zCM - wNx w) ≤ R.cells ∧ A.slots + (zSM - wSl w) ≤ R.slots ∧ a = av.toArray ∧ zPre E F w A.U
def zPost (E : zEv) (F : zWd → Prop) (Q : Option Value → zWd → Prop) : Pt → Array Value → Option Value → Pt → Prop := fun A _ v B => ∃ (w' : zWd) (L : List Loc), zSim E w' B.U.heap ∧ F w' ∧ va_F (zA E) A.U B.U ∧ B.locs = A.locs ++ L ∧ (∀ x ∈ L, zA E x.base) ∧ Q v w'
def zPostX (E : zEv) (F : zWd → Prop) (X : Nat → Nat → zWd → Prop) : Pt → Array Value → Addr → Pt → Prop := fun A _ q B => ∃ (w' : zWd) (L : List Loc), zSim E w' B.U.heap ∧ F w' ∧ va_F (zA E) A.U B.U ∧ B.locs = A.locs ++ L ∧ (∀ x ∈ L, zA E x.base) ∧ ∃ (k : Nat) (ce : Cell), X k q w' ∧ B.U.heap[q]? = some ce ∧ ce.vm = .none ∧ A.U.vm.findClass (zXn k) = some ce.cls
/-- (follows vx_back) -/
theorem z_back {ws : List Cond} {E : zEv} {F : zWd → Prop} {d maxL : Nat} {av : List Value} {w : zWd} {Q : Option Value → zWd → Prop} {X : Nat → Nat → zWd → Prop} (hM : zCt l E F y ws d av w Q X) (hframes : d + 1 ≤ R.frames) (hlocals : W9 + (maxL + 11) + 100 * d ≤ R.locals)
    (hws : ∀ w ∈ ws, ∀ a' U, s.WarmedH U.vm → w.before a' U = true) (hcs : ∀ (U : State) (mk : MethodId), s.WarmedH U.vm → U.methodNamed? y = some mk → ∃ methY cY, U.vm.method? mk = some methY ∧ methY.code = some cY ∧ cY.maxLocals = maxL) (hinit : ∀ a' U, s.WarmedH U.vm → (Cond.initialized y.cls).before a' U = true) :
    vx_Back l R p e below s sargs y len W9 (zPreP R E F av w) (zPost E F Q) (zPostX E F X) := by
  intro m meth c A g ig mk a X0 hg hsize hdg hW hn hp
  have h1 : (headSpec ws (zRm E d w)).pre.before a A.U = true := atoms_intro fun w hw => hws w hw _ _ X0.warmed
  have h3 : (Cond.initialized y.cls).before a A.U = true := hinit _ _ X0.warmed
  have h4 : A.cells + (headSpec ws (zRm E d w)).room.cells ≤ R.cells := hp.1
  have h5 : A.slots + (headSpec ws (zRm E d w)).room.slots ≤ R.slots := hp.2.1
  have hPc : va_Pc av (zPre E F w) a (A.U.calling g mk a) := ⟨hp.2.2.1, hp.2.2.2.1, hp.2.2.2.2.1, hp.2.2.2.2.2.calling g mk a⟩
  obtain ⟨methY, cY, hmY, hcY, hlY⟩ := hcs A.U mk X0.warmed hn
  obtain ⟨U, Ls, c0, s0⟩ := A
  dsimp only [Pt.U, Pt.locs, Pt.cells, Pt.slots] at h1 h3 h4 h5 X0 hn hPc hmY ⊢
  obtain ⟨kY, hkY, -⟩ := className_of_methodNamed hn
  have hinitY : kY.init = .initialized := Cond.initialized_spec (findClass_of_methodNamed hn) hkY h3
  have h : At U g.method c below := by rw [hg]; exact X0.here
  have hlocals9 : W9 + (maxL + 11) + (headSpec ws (zRm E d w)).room.locals ≤ R.locals := hlocals
  have happ : (headSpec ws (zRm E d w)).appliesLoose y e.platform (U.calling g mk a) = true :=
    Spec.appliesLoose_calling (g := g) h hdg hn hkY hinitY
      (X0.room_calling (g := g) (R' := (headSpec ws (zRm E d w)).room) hsize hmY hcY hframes (by rw [hlY]; omega) h4 h5) h1
  obtain ⟨mid, hmid⟩ := h.above
  have hfr : (U.setTop g).frames = (.java g :: mid) ++ below := by rw [State.frames_setTop' g h.top, hmid]; rfl
  obtain ⟨o, s₂, hsteps, -, hend, hq⟩ := Steps.callFree hM p X0.admits X0.cas X0.clock (acts := []) hfr happ hPc trivial
  rw [State.frames_setTop' g h.top] at hend
  obtain ⟨g₀, hg0⟩ := Option.isSome_iff_exists.mp h.top
  obtain ⟨r, hr⟩ := State.topJava?_eq_some.mp hg0
  have hr' : (({ U with heap := s₂.heap, slotsUsed := s₂.slotsUsed } : State).setVm s₂.vm).frames = .java g₀ :: r := hr
  have hq' : zQ E F Q X (eZ E + zCM - wNx w) (zSM - wSl w) (U.calling g mk a) o s₂ := hq
  obtain ⟨w', L, hsim, hF, hvF, hW₂, hsm, hL, hcase⟩ := hq'
  obtain ⟨e2, q2, q3, q4, q5, q6⟩ := id hsm
  have e3 : s₂ = ({ (U.calling g mk a).setFrames s₂.frames with heap := s₂.heap, slotsUsed := s₂.slotsUsed } : State).setVm s₂.vm := by
    have : s₂ = ({ s₂ with vm := (U.calling g mk a).vm } : State).setVm s₂.vm := rfl
    rw [e2] at this
    exact this
  have hW' : U.WarmedH s₂.vm := hW₂
  have hsame : U.sameButNew ({ U with heap := s₂.heap, slotsUsed := s₂.slotsUsed } : State) L (eZ E + zCM - wNx w) (zSM - wSl w) := by
    refine ⟨?_, q2, q3, q4, q5, q6⟩
    obtain ⟨t, ht, -⟩ := State.frames_cons hr
    show ({ U with heap := s₂.heap, slotsUsed := s₂.slotsUsed } : State) = { U.setFrames U.frames with heap := s₂.heap, slotsUsed := s₂.slotsUsed }
    rw [State.setFrames_self ht]
  rcases hcase with ⟨v, rfl, hQ⟩ | ⟨k, q, ce, rfl, hX, hce, hcv, hcl⟩
  · obtain ⟨c₂, i₂, len₂, hc₂, hd₂, hf₂⟩ := hend
    have hcc : c₂ = c := by
      have h1 : s₂.code? g.method = U.code? g.method := by
        rw [State.code?_eq, State.code?_eq, hW'.alike.method?]
      exact Option.some.inj (hc₂.symm.trans (h1.trans h.code))
    subst hcc
    have hlen : len₂ = len := by rw [hdg] at hd₂; cases hd₂; rfl
    subst hlen
    have hs₂ : s₂ = (({ U with heap := s₂.heap, slotsUsed := s₂.slotsUsed } : State).setVm s₂.vm).setTop { g with pc := g.pc + len₂, stack := v.toList ++ g.stack } := by
      refine e3.trans ?_
      rw [hf₂, State.calling_eq h.top, State.setFrames_setFrames, State.setTop_of_frames _ hr', hr]
      rfl
    subst hg
    refine Or.inl ⟨v, ⟨(({ U with heap := s₂.heap, slotsUsed := s₂.slotsUsed } : State).setVm s₂.vm), Ls ++ L, c0 + (eZ E + zCM - wNx w), s0 + (zSM - wSl w)⟩,
      ⟨X0.admits, X0.cas, X0.clock, X0.frames, X0.room, X0.hears, X0.method, X0.code, (X0.here.setHeapUsed s₂.heap s₂.slotsUsed).setVm hW'.alike, X0.tail, State.WarmedH.trans X0.warmed hW', X0.limits, X0.bytes, X0.same.trans (hsame.setVm s.vm)⟩,
      ⟨w', L, hsim, hF, hvF, rfl, hL, hQ⟩, ?_⟩
    show Steps p.tables e below _ ((({ U with heap := s₂.heap, slotsUsed := s₂.slotsUsed } : State).setVm s₂.vm).setTop { g with pc := g.pc + len₂, stack := v.toList ++ g.stack })
    rw [← hs₂]
    exact hsteps
  · have hf₂ : s₂.frames = .throwing q :: .java g :: U.frames.tail := hend
    have hs₂ : s₂ = ((({ U with heap := s₂.heap, slotsUsed := s₂.slotsUsed } : State).setVm s₂.vm).setTop g).pushFrame (.throwing q) := by
      refine e3.trans ?_
      rw [hf₂, State.calling_eq h.top, State.setFrames_setFrames, State.pushFrame, State.frames_setTop _ hr', State.setTop_of_frames _ hr', State.setFrames_setFrames, hr]
      rfl
    subst hg
    refine Or.inr ⟨q, ⟨(({ U with heap := s₂.heap, slotsUsed := s₂.slotsUsed } : State).setVm s₂.vm), Ls ++ L, c0 + (eZ E + zCM - wNx w), s0 + (zSM - wSl w)⟩,
      ⟨X0.admits, X0.cas, X0.clock, X0.frames, X0.room, X0.hears, X0.method, X0.code, (X0.here.setHeapUsed s₂.heap s₂.slotsUsed).setVm hW'.alike, X0.tail, State.WarmedH.trans X0.warmed hW', X0.limits, X0.bytes, X0.same.trans (hsame.setVm s.vm)⟩,
      ⟨w', L, hsim, hF, hvF, rfl, hL, k, ce, hX, hce, hcv, hcl⟩, ?_⟩
    show Steps p.tables e below _ (((({ U with heap := s₂.heap, slotsUsed := s₂.slotsUsed } : State).setVm s₂.vm).setTop g).pushFrame (.throwing q))
    rw [← hs₂]
    exact hsteps
end Back
section Calls
variable {K : zK} {cc : ByteArray} {own : String} {nL d pc : Nat} {w : zWd} {L : List (Nat × Value)} {st : List Value}
/-- a call from the frame g, by its two ends -/
def zGo (K : zK) (H : Heap) (locs : List Loc) (g : JFrame) (rest : List Value) (len : Nat) (Q : Option Value → zWd → Prop) (X : Nat → Nat → zWd → Prop) : Prop :=
  ∀ T : State, T.heap = H → zSt K T locs (H.size - (ks K).heap.size) (szs H (ks K).heap.size) →
    (∃ (v : Option Value) (w' : zWd) (T' : State) (locs' : List Loc) (c' s' : Nat), zSt K T' locs' c' s' ∧ zIn K w' T'.heap locs' ∧ Q v w' ∧ ∀ target, Steps (kp K).tables (ke K) (kb K) (T'.setTop { g with pc := g.pc + len, stack := v.toList ++ rest }) target → Steps (kp K).tables (ke K) (kb K) (T.setTop g) target) ∨
    (∃ (k q : Nat) (w' : zWd) (T' : State) (locs' : List Loc) (c' s' : Nat), zSt K T' locs' c' s' ∧ zIn K w' T'.heap locs' ∧ X k q w' ∧ zThr K T'.heap k q ∧ Steps (kp K).tables (ke K) (kb K) (T.setTop g) ((T'.setTop { g with stack := rest }).pushFrame (.throwing q)))
theorem y_go {st0 rest : List Value} {len : Nat} {Q : Option Value → zWd → Prop} {X : Nat → Nat → zWd → Prop} (hgo : ∀ H locs ls, zIn K w H locs → zHas K ls L → zGo K H locs (F0 (km K) pc ls st0) rest len Q X) (kk : ∀ v w', Q v w' → zY K w' L (pc + len) (v.toList ++ rest)) (kx : ∀ k q w', X k q w' → zYX K w' L pc rest k q) : zY K w L pc st0 := fun H locs ls hi hl T hT X => by
  rcases hgo H locs ls hi hl T hT X with ⟨v, w', T', locs', c', s', X', hi', hQ, st⟩ | ⟨k, q, w', T', locs', c', s', X', hi', hX, hth, st⟩
  · obtain ⟨t, a1, b1⟩ := kk v w' hQ T'.heap locs' ls hi' hl T' rfl (z_tight X')
    exact ⟨t, st t a1, b1⟩
  · obtain ⟨t, a1, b1⟩ := kx k q w' hX T'.heap locs' ls hi' hl hth T' rfl (z_tight X')
    exact ⟨t, st.trans a1, b1⟩
theorem z_two {H : Heap} {locs : List Loc} {g : JFrame} {rest : List Value} {len : Nat} {Q : Option Value → zWd → Prop} {X : Nat → Nat → zWd → Prop} {T : State} {c0 s0 : Nat} {a : Array Value} (hi : zIn K w H locs) (hT : T.heap = H)
    (h : (∃ (v : Option Value) (vm₁ : Vm) (B : Pt), (ks K).WarmedH vm₁ ∧ Stand (kp K) (kl K) (ke K) (kR K) (ks K) (km K) (ka K) (kb K) (kM K) (kc K) B.U B.locs B.cells B.slots ∧ zPost (kE K) (kF K) Q ⟨T.setVm vm₁, locs, c0, s0⟩ a v B ∧
      ∀ target, Steps (kp K).tables (ke K) (kb K) (B.U.setTop { g with pc := g.pc + len, stack := v.toList ++ rest }) target → Steps (kp K).tables (ke K) (kb K) (T.setTop g) target) ∨
    (∃ (q : Addr) (vm₁ : Vm) (B : Pt), (ks K).WarmedH vm₁ ∧ Stand (kp K) (kl K) (ke K) (kR K) (ks K) (km K) (ka K) (kb K) (kM K) (kc K) B.U B.locs B.cells B.slots ∧ zPostX (kE K) (kF K) X ⟨T.setVm vm₁, locs, c0, s0⟩ a q B ∧
      Steps (kp K).tables (ke K) (kb K) (T.setTop g) ((B.U.setTop { g with stack := rest }).pushFrame (.throwing q)))) :
    (∃ (v : Option Value) (w' : zWd) (T' : State) (locs' : List Loc) (c' s' : Nat), zSt K T' locs' c' s' ∧ zIn K w' T'.heap locs' ∧ Q v w' ∧ ∀ target, Steps (kp K).tables (ke K) (kb K) (T'.setTop { g with pc := g.pc + len, stack := v.toList ++ rest }) target → Steps (kp K).tables (ke K) (kb K) (T.setTop g) target) ∨
    (∃ (k q : Nat) (w' : zWd) (T' : State) (locs' : List Loc) (c' s' : Nat), zSt K T' locs' c' s' ∧ zIn K w' T'.heap locs' ∧ X k q w' ∧ zThr K T'.heap k q ∧ Steps (kp K).tables (ke K) (kb K) (T.setTop g) ((T'.setTop { g with stack := rest }).pushFrame (.throwing q))) := by
  have keep : ∀ {vm₁ : Vm} {U : State} {L2 : List Loc}, va_F (zA (kE K)) (T.setVm vm₁) U → (∀ x ∈ L2, zA (kE K) x.base) → va_S (zA (kE K)) (ks K).heap U.heap (locs ++ L2) := by
    intro vm₁ U L2 hvF hL
    obtain ⟨f1, f2⟩ := hvF
    have e0 : (T.setVm vm₁).heap = H := hT
    rw [e0] at f1 f2
    refine ⟨Nat.le_trans hi.1.1 f1, fun q g1 g2 => ?_, fun x hx => ?_⟩
    · rw [f2 q (Nat.lt_of_lt_of_le g1 hi.1.1) g2]
      exact hi.1.2.1 q g1 g2
    · rcases List.mem_append.mp hx with h | h
      · exact hi.1.2.2 x h
      · exact hL x h
  rcases h with ⟨v, vm₁, ⟨U, l2, c2, s2⟩, hW, X', ⟨w', L2, hsim, hF, hvF, hl2, hL, hQ⟩, hst⟩ | ⟨q, vm₁, ⟨U, l2, c2, s2⟩, hW, X', ⟨w', L2, hsim, hF, hvF, hl2, hL, k, ce, hX, hce, hcv, hcl⟩, hst⟩
  · dsimp only [Pt.U, Pt.locs, Pt.cells, Pt.slots] at X' hsim hvF hl2 hst
    subst hl2
    exact Or.inl ⟨v, w', U, locs ++ L2, c2, s2, X', ⟨keep hvF hL, hsim, hF⟩, hQ, hst⟩
  · dsimp only [Pt.U, Pt.locs, Pt.cells, Pt.slots] at X' hsim hvF hl2 hst hce hcl
    subst hl2
    exact Or.inr ⟨k, q, w', U, locs ++ L2, c2, s2, X', ⟨keep hvF hL, hsim, hF⟩, hX, ⟨ce, hce, hcv, vx_cls hW hcl⟩, hst⟩
theorem z_pre (C : zCx K cc own nL d) {H : Heap} {locs : List Loc} {T : State} {av : List Value} (hi : zIn K w H locs) (hT : T.heap = H) (X : zSt K T locs (H.size - (ks K).heap.size) (szs H (ks K).heap.size)) : ∀ vm₁, (ks K).WarmedH vm₁ → zPreP (kR K) (kE K) (kF K) av w ⟨T.setVm vm₁, locs, H.size - (ks K).heap.size, szs H (ks K).heap.size⟩ av.toArray := by
  intro vm₁ hW
  have e0 : (T.setVm vm₁).heap = H := hT
  refine ⟨hi.cells C, hi.slots C (fun q c0 h => by rw [← hT]; exact z_sizes X q c0 h), rfl, ?_, hi.2.2, ?_⟩
  · show zSim (kE K) w (T.setVm vm₁).heap
    rw [e0]; exact hi.2.1
  · refine C.2.2.2.2.2.1.moved hW (fun a g1 g2 => ?_)
    show (T.setVm vm₁).heap[a]? = _
    rw [e0]; exact hi.1.2.1 a g1 g2
theorem z_lists {y : MethodName} {bytes : ByteArray} {maxL : Nat} {ret : Option FieldType} (hts : ∀ w ∈ lw_all, w.before (ka K) (ks K) = true) (h5 : Cond.code y bytes maxL ret ∈ lw_all) : (∀ w ∈ ws_ y bytes maxL ret, ∀ a' U, (ks K).WarmedH U.vm → w.before a' U = true) ∧ (∀ (U : State) (mk : MethodId), (ks K).WarmedH U.vm → U.methodNamed? y = some mk → ∃ methY cY, U.vm.method? mk = some methY ∧ methY.code = some cY ∧ cY.maxLocals = maxL) := by
  have h := pay_in hts (lw_meth h5)
  refine ⟨h, fun U mk hW hn => ?_⟩
  obtain ⟨methY, cY, hmY, hcY, -, hlY, -⟩ := Cond.code_spec hn (h _ List.mem_cons_self (ka K) U hW)
  exact ⟨methY, cY, hmY, hcY, hlY⟩
theorem z_listsW {y : MethodName} {bytes : ByteArray} {maxL : Nat} {ret : Option FieldType} {hh : List (Nat × Nat × Nat × Nat)} (hts : ∀ w ∈ lw_all, w.before (ka K) (ks K) = true) (h5 : Cond.codeWith y bytes maxL ret hh ∈ lw_all) : (∀ w ∈ wsW_ y bytes maxL ret hh, ∀ a' U, (ks K).WarmedH U.vm → w.before a' U = true) ∧ (∀ (U : State) (mk : MethodId), (ks K).WarmedH U.vm → U.methodNamed? y = some mk → ∃ methY cY, U.vm.method? mk = some methY ∧ methY.code = some cY ∧ cY.maxLocals = maxL) := by
  have h := pay_in hts (lw_methW h5)
  refine ⟨h, fun U mk hW hn => ?_⟩
  obtain ⟨m9, methY, cY, hn9, hmY, hcY, -, hlY, -⟩ := Cond.codeWith_spec (h _ List.mem_cons_self (ka K) U hW)
  cases hn.symm.trans hn9
  exact ⟨methY, cY, hmY, hcY, hlY⟩
theorem z_ini {y : MethodName} (hts : ∀ w ∈ lw_all, w.before (ka K) (ks K) = true) (h4 : Cond.initialized y.cls ∈ lw_all) : ∀ a' U, (ks K).WarmedH U.vm → (Cond.initialized y.cls).before a' U = true := fun a' U hW => word_at hW (Or.inl (by first | rfl | simp [Cond.onTables, Cond.keeps, Cond.steady])) (hts _ h4)
/-- what the parse of a descriptor says of the arguments' number -/
def zAr (y : MethodName) (n : Nat) : Prop := (y.cls ≠ "java/lang/invoke/MethodHandle" ∧ y.cls ≠ "java/lang/invoke/VarHandle") ∧ (parseMethodDescriptor y.desc).map (fun d => d.parameters.length) = some n
theorem zAr.len {y : MethodName} {n : Nat} (h : zAr y n) {As : List Value} (hn : As.length = n) : ∀ sig, parseMethodDescriptor y.desc = some sig → As.length = sig.parameters.length := by
  intro sig hs
  have h2 := h.2
  rw [hs] at h2
  exact hn.trans (Option.some.inj h2).symm
/-- the receiver is an object of the class CN -/
def zRc (K : zK) (w : zWd) (b : Nat) (CN : String) : Prop := ∀ H locs, zIn K w H locs → ∃ cellB : Cell, H[b]? = some cellB ∧ cellB.vm.isStatics = false ∧ (ks K).vm.findClass CN = some cellB.cls
theorem z_rc (C : zCx K cc own nL d) {kk b N : Nat} {CN : String} {T : u_T} (hc : zCl[kk]? = some (CN, T, N)) (hk : kk < 50) (hsh : kF K w → wSh w b = (kk + 1, 0)) : zRc K w b CN := by
  intro H locs hi
  obtain ⟨r, hr, cell, q1, q2, q3, -⟩ := (hi.2.1.2.2.2.2.2.1 b).1 kk 0 (hsh hi.2.2) hk
  cases Option.some.inj (hr.symm.trans hc)
  exact ⟨cell, q1, by rw [q3]; rfl, by rw [q2]; exact (C.2.2.2.2.2.1.1.1 kk _ hc).2.1⟩
theorem z_rcS (C : zCx K cc own nL d) {i : Nat} (hi9 : i < 46) : zRc K w (eS (kE K) i) "java/lang/String" := by
  intro H locs hi
  obtain ⟨cell, h1, h2, h3, -⟩ := (C.2.2.2.2.2.1.2.2.2.2.2.1 i hi9).1.kept hi.1.2.1
  exact ⟨cell, h1, h2, h3⟩
variable {idx b n d' maxL : Nat} {y : MethodName} {bytes : ByteArray} {ret : Option FieldType} {hh : List (Nat × Nat × Nat × Nat)} {As rest : List Value} {Q : Option Value → zWd → Prop} {X : Nat → Nat → zWd → Prop}
theorem z_rest {st : List Value} {g : JFrame} (hg : g.monitorRoom = 0) (h : (st.map fun v => v.category).sum ≤ 8) : 2 * g.monitorRoom + (st.map fun v => v.category).sum ≤ 8 := by rw [hg]; omega
theorem z_fit (C : zCx K cc own nL d) (hd' : d' + 1 ≤ d) (hmL : maxL ≤ 80) : d' + 1 ≤ (kR K).frames ∧ 8 + (maxL + 11) + 100 * d' ≤ (kR K).locals := by
  have h8 := C.2.2.2.2.2.2.2.2.1
  have h9 := C.2.2.2.2.2.2.2.2.2.1
  exact ⟨by omega, by omega⟩
theorem z_goV (C : zCx K cc own nL d) (hM : zCt (kl K) (kE K) (kF K) y (ws_ y bytes maxL ret) d' (.ref b :: As) w Q X) (hd' : d' + 1 ≤ d) (hmL : maxL ≤ 80) (h1 : Cond.methodLink own idx y ∈ lw_all) (h2 : Cond.instanceMethod y ∈ lw_all) (h3 : Cond.selects y.cls y y ∈ lw_all) (h4 : Cond.initialized y.cls ∈ lw_all) (h5 : Cond.code y bytes maxL ret ∈ lw_all) (har : zAr y n) (hn : As.length = n) (hrc : zRc K w b y.cls) (hst : (rest.map fun v => v.category).sum ≤ 8) (hdg : decode cc pc = .ok (.invokevirtual idx, 3)) {st0 : List Value} (hst0 : st0 = As.reverse ++ .ref b :: rest) : ∀ H locs ls, zIn K w H locs → zHas K ls L → zGo K H locs (F0 (km K) pc ls st0) rest 3 Q X := by
  intro H locs ls hi hl T hT X0
  obtain ⟨hx, hb, hml, hown, hts, hzT, -⟩ := id C
  obtain ⟨f1, f2⟩ := z_fit C hd' hmL
  obtain ⟨hws, hcs⟩ := z_lists hts h5
  obtain ⟨cellB, r1, r2, r3⟩ := hrc H locs hi
  have hK := z_back (p := kp K) (e := ke K) (below := kb K) (sargs := ka K) (len := 3) hM f1 f2 hws hcs (z_ini hts h4)
  exact z_two hi hT (vx_callV X0 hx (C := y.cls) (bytes := bytes) (maxL := maxL) (ret := ret) hown (hts _ h1) (hts _ h2) (hts _ h3) (hts _ h5) har.1 hK (by rw [hT]; exact r1) r2 r3 (g := F0 (km K) pc ls st0) rfl hl.1.1 (argsL := As) (rest := rest) (har.len hn) hst0 (z_rest rfl hst) (by rw [hb]; exact hdg) (z_pre C hi hT X0))
theorem z_goS (C : zCx K cc own nL d) (hM : zCt (kl K) (kE K) (kF K) y (ws_ y bytes maxL ret) d' As w Q X) (hd' : d' + 1 ≤ d) (hmL : maxL ≤ 80) (h1 : Cond.methodLink own idx y ∈ lw_all) (h2 : Cond.static y ∈ lw_all) (h4 : Cond.initialized y.cls ∈ lw_all) (h5 : Cond.code y bytes maxL ret ∈ lw_all) (har : zAr y n) (hn : As.length = n) (hst : (rest.map fun v => v.category).sum ≤ 8) (hdg : decode cc pc = .ok (.invokestatic idx, 3)) {st0 : List Value} (hst0 : st0 = As.reverse ++ rest) : ∀ H locs ls, zIn K w H locs → zHas K ls L → zGo K H locs (F0 (km K) pc ls st0) rest 3 Q X := by
  intro H locs ls hi hl T hT X0
  obtain ⟨hx, hb, hml, hown, hts, hzT, -⟩ := id C
  obtain ⟨f1, f2⟩ := z_fit C hd' hmL
  obtain ⟨hws, hcs⟩ := z_lists hts h5
  have hK := z_back (p := kp K) (e := ke K) (below := kb K) (sargs := ka K) (len := 3) hM f1 f2 hws hcs (z_ini hts h4)
  exact z_two hi hT (vx_callS X0 hx (bytes := bytes) (maxL := maxL) (ret := ret) hown (hts _ h1) (hts _ h2) (hts _ h4) (hts _ h5) har.1 hK (g := F0 (km K) pc ls st0) rfl hl.1.1 (argsL := As) (rest := rest) (har.len hn) hst0 (z_rest rfl hst) (by rw [hb]; exact hdg) (z_pre C hi hT X0))
theorem z_goSN (C : zCx K cc own nL d) {host : String} (hM : zCt (kl K) (kE K) (kF K) y (ws_ y bytes maxL ret) d' As w Q X) (hd' : d' + 1 ≤ d) (hmL : maxL ≤ 80) (h1 : Cond.methodLinkNest own idx y host ∈ lw_tbl) (h2 : Cond.static y ∈ lw_all) (h4 : Cond.initialized y.cls ∈ lw_all) (h5 : Cond.code y bytes maxL ret ∈ lw_all) (har : zAr y n) (hn : As.length = n) (hst : (rest.map fun v => v.category).sum ≤ 8) (hdg : decode cc pc = .ok (.invokestatic idx, 3)) {st0 : List Value} (hst0 : st0 = As.reverse ++ rest) : ∀ H locs ls, zIn K w H locs → zHas K ls L → zGo K H locs (F0 (km K) pc ls st0) rest 3 Q X := by
  intro H locs ls hi hl T hT X0
  obtain ⟨hx, hb, hml, hown, hts, hzT, -⟩ := id C
  obtain ⟨f1, f2⟩ := z_fit C hd' hmL
  obtain ⟨hws, hcs⟩ := z_lists hts h5
  have hK := z_back (p := kp K) (e := ke K) (below := kb K) (sargs := ka K) (len := 3) hM f1 f2 hws hcs (z_ini hts h4)
  exact z_two hi hT (vx_callSN X0 hx (bytes := bytes) (maxL := maxL) (ret := ret) hown (va_Nw.use rfl (hzT.2.1 _ (zNw_in h1 rfl))) (hts _ h2) (hts _ h4) (hts _ h5) har.1 hK (g := F0 (km K) pc ls st0) rfl hl.1.1 (argsL := As) (rest := rest) (har.len hn) hst0 (z_rest rfl hst) (by rw [hb]; exact hdg) (z_pre C hi hT X0))
theorem z_goI (C : zCx K cc own nL d) (hM : zCt (kl K) (kE K) (kF K) y (ws_ y bytes maxL none) d' (.ref b :: As) w Q X) (hd' : d' + 1 ≤ d) (hmL : maxL ≤ 80) (hy1 : y.name = "<init>") (h1 : Cond.methodLink own idx y ∈ lw_all) (h2 : Cond.instanceMethod y ∈ lw_all) (h4 : Cond.initialized y.cls ∈ lw_all) (h5 : Cond.code y bytes maxL none ∈ lw_all) (har : zAr y n) (hn : As.length = n) (hst : (rest.map fun v => v.category).sum ≤ 8) (hdg : decode cc pc = .ok (.invokespecial idx, 3)) {st0 : List Value} (hst0 : st0 = As.reverse ++ .ref b :: rest) : ∀ H locs ls, zIn K w H locs → zHas K ls L → zGo K H locs (F0 (km K) pc ls st0) rest 3 Q X := by
  intro H locs ls hi hl T hT X0
  obtain ⟨hx, hb, hml, hown, hts, hzT, -⟩ := id C
  obtain ⟨f1, f2⟩ := z_fit C hd' hmL
  obtain ⟨hws, hcs⟩ := z_lists hts h5
  have hK := z_back (p := kp K) (e := ke K) (below := kb K) (sargs := ka K) (len := 3) hM f1 f2 hws hcs (z_ini hts h4)
  exact z_two hi hT (vx_callI X0 hx (bytes := bytes) (maxL := maxL) hown hy1 (hts _ h1) (hts _ h2) (hts _ h5) har.1 hK (g := F0 (km K) pc ls st0) rfl hl.1.1 (argsL := As) (rest := rest) (har.len hn) hst0 (z_rest rfl hst) (by rw [hb]; exact hdg) (z_pre C hi hT X0))
theorem z_goIN (C : zCx K cc own nL d) {host : String} (hM : zCt (kl K) (kE K) (kF K) y (ws_ y bytes maxL none) d' (.ref b :: As) w Q X) (hd' : d' + 1 ≤ d) (hmL : maxL ≤ 80) (hy1 : y.name = "<init>") (h1 : Cond.methodLinkNest own idx y host ∈ lw_tbl) (h2 : Cond.instanceMethod y ∈ lw_all) (h4 : Cond.initialized y.cls ∈ lw_all) (h5 : Cond.code y bytes maxL none ∈ lw_all) (har : zAr y n) (hn : As.length = n) (hst : (rest.map fun v => v.category).sum ≤ 8) (hdg : decode cc pc = .ok (.invokespecial idx, 3)) {st0 : List Value} (hst0 : st0 = As.reverse ++ .ref b :: rest) : ∀ H locs ls, zIn K w H locs → zHas K ls L → zGo K H locs (F0 (km K) pc ls st0) rest 3 Q X := by
  intro H locs ls hi hl T hT X0
  obtain ⟨hx, hb, hml, hown, hts, hzT, -⟩ := id C
  obtain ⟨f1, f2⟩ := z_fit C hd' hmL
  obtain ⟨hws, hcs⟩ := z_lists hts h5
  have hK := z_back (p := kp K) (e := ke K) (below := kb K) (sargs := ka K) (len := 3) hM f1 f2 hws hcs (z_ini hts h4)
  exact z_two hi hT (vx_callIN X0 hx (bytes := bytes) (maxL := maxL) hown hy1 (va_Nw.use rfl (hzT.2.1 _ (zNw_in h1 rfl))) (hts _ h2) (hts _ h5) har.1 hK (g := F0 (km K) pc ls st0) rfl hl.1.1 (argsL := As) (rest := rest) (har.len hn) hst0 (z_rest rfl hst) (by rw [hb]; exact hdg) (z_pre C hi hT X0))
/-- calls of methods with handlers -/
theorem z_goVX (C : zCx K cc own nL d) (hM : zCt (kl K) (kE K) (kF K) y (wsW_ y bytes maxL ret hh) d' (.ref b :: As) w Q X) (hd' : d' + 1 ≤ d) (hmL : maxL ≤ 80) (h1 : Cond.methodLink own idx y ∈ lw_all) (h2 : Cond.instanceMethod y ∈ lw_all) (h3 : Cond.selects y.cls y y ∈ lw_all) (h4 : Cond.initialized y.cls ∈ lw_all) (h5 : Cond.codeWith y bytes maxL ret hh ∈ lw_all) (har : zAr y n) (hn : As.length = n) (hrc : zRc K w b y.cls) (hst : (rest.map fun v => v.category).sum ≤ 8) (hdg : decode cc pc = .ok (.invokevirtual idx, 3)) {st0 : List Value} (hst0 : st0 = As.reverse ++ .ref b :: rest) : ∀ H locs ls, zIn K w H locs → zHas K ls L → zGo K H locs (F0 (km K) pc ls st0) rest 3 Q X := by
  intro H locs ls hi hl T hT X0
  obtain ⟨hx, hb, hml, hown, hts, hzT, -⟩ := id C
  obtain ⟨f1, f2⟩ := z_fit C hd' hmL
  obtain ⟨hws, hcs⟩ := z_listsW hts h5
  obtain ⟨cellB, r1, r2, r3⟩ := hrc H locs hi
  have hK := z_back (p := kp K) (e := ke K) (below := kb K) (sargs := ka K) (len := 3) hM f1 f2 hws hcs (z_ini hts h4)
  exact z_two hi hT (vx_callVX X0 hx (C := y.cls) (bytes := bytes) (maxL := maxL) (ret := ret) (hh := hh) hown (hts _ h1) (hts _ h2) (hts _ h3) (hts _ h5) har.1 hK (by rw [hT]; exact r1) r2 r3 (g := F0 (km K) pc ls st0) rfl hl.1.1 (argsL := As) (rest := rest) (har.len hn) hst0 (z_rest rfl hst) (by rw [hb]; exact hdg) (z_pre C hi hT X0))
theorem z_goSX (C : zCx K cc own nL d) (hM : zCt (kl K) (kE K) (kF K) y (wsW_ y bytes maxL ret hh) d' As w Q X) (hd' : d' + 1 ≤ d) (hmL : maxL ≤ 80) (h1 : Cond.methodLink own idx y ∈ lw_all) (h2 : Cond.static y ∈ lw_all) (h4 : Cond.initialized y.cls ∈ lw_all) (h5 : Cond.codeWith y bytes maxL ret hh ∈ lw_all) (har : zAr y n) (hn : As.length = n) (hst : (rest.map fun v => v.category).sum ≤ 8) (hdg : decode cc pc = .ok (.invokestatic idx, 3)) {st0 : List Value} (hst0 : st0 = As.reverse ++ rest) : ∀ H locs ls, zIn K w H locs → zHas K ls L → zGo K H locs (F0 (km K) pc ls st0) rest 3 Q X := by
  intro H locs ls hi hl T hT X0
  obtain ⟨hx, hb, hml, hown, hts, hzT, -⟩ := id C
  obtain ⟨f1, f2⟩ := z_fit C hd' hmL
  obtain ⟨hws, hcs⟩ := z_listsW hts h5
  have hK := z_back (p := kp K) (e := ke K) (below := kb K) (sargs := ka K) (len := 3) hM f1 f2 hws hcs (z_ini hts h4)
  exact z_two hi hT (vx_callSX X0 hx (bytes := bytes) (maxL := maxL) (ret := ret) (hh := hh) hown (hts _ h1) (hts _ h2) (hts _ h4) (hts _ h5) har.1 hK (g := F0 (km K) pc ls st0) rfl hl.1.1 (argsL := As) (rest := rest) (har.len hn) hst0 (z_rest rfl hst) (by rw [hb]; exact hdg) (z_pre C hi hT X0))
end Calls
