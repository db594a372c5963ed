/-! OWN LAYER, 4: fields, arrays, new cells -/
set_option maxRecDepth 100000
/-- the entry idx of the class own is the field j of the class kk -/
def zFL (own : String) (idx kk j : Nat) : Prop := ∃ (CN : String) (T : u_T) (N : Nat), zCl[kk]? = some (CN, T, N) ∧ kk < 50 ∧ j < N ∧ (∀ w ∈ u_ws CN T N, w ∈ lw_all) ∧ (∀ k, k < N → parseFieldDescriptor (T k).2.2.1 = some (zFT kk k)) ∧ (∀ a, a < N → ∀ b, b < N → a ≠ b → (T a).2.1 ≠ (T b).2.1) ∧
  (Cond.fieldLink own idx (T j).1 (T j).2.1 (T j).2.2.1 ∈ lw_all ∨ ∃ host, Cond.fieldLinkNest own idx (T j).1 (T j).2.1 (T j).2.2.1 host ∈ lw_tbl)
/-- it isn't final -/
def zNF (kk j : Nat) : Prop := ∀ (CN : String) (T : u_T) (N : Nat), zCl[kk]? = some (CN, T, N) → (T j).2.2.2 = false
/-- it is final, and own's -/
def zFN (own : String) (idx kk j : Nat) : Prop := ∀ (CN : String) (T : u_T) (N : Nat), zCl[kk]? = some (CN, T, N) → (T j).2.2.2 = true ∧ (T j).1 = own ∧ Cond.fieldLink own idx (T j).1 (T j).2.1 (T j).2.2.1 ∈ lw_all
theorem Cell_setSlot_size (c : Cell) (i : Nat) (v : Value) : (c.setSlot i v).slots.size = c.slots.size := by simp [Cell.setSlot]
section Heap
variable {K : zK} {cc : ByteArray} {own : String} {nL d pc : Nat} {w : zWd} {L : List (Nat × Value)} {st : List Value}
theorem y_getf (C : zCx K cc own nL d) {idx kk j a : Nat} (hf : zFL own idx kk j) (hd : decode cc pc = .ok (.getfield idx, 3)) (hsh : kF K w → wSh w a = (kk + 1, 0)) (k : zY K w L (pc + 3) (fV kk w a j :: st)) : zY K w L pc (.ref a :: st) := fun H locs ls hi hl => by
  obtain ⟨CN, T, N, hc, hk50, hj, hin, hty, hnm, hlk⟩ := hf
  obtain ⟨hS, hsim, hF⟩ := id hi
  obtain ⟨r, hr, cell, q1, q2, q3, q4⟩ := (hsim.2.2.2.2.2.1 a).1 kk 0 (hsh hF) hk50
  cases Option.some.inj (hr.symm.trans hc)
  obtain ⟨hx, hb, hml, hown, hts, hT, -⟩ := C
  obtain ⟨hSl, hfc, kC, hkC, hkind⟩ := hT.1.1 kk _ hc
  obtain ⟨cf, kf, fi, f, hif, hsl⟩ := hSl j hj
  have hst := (u_facts hfc hkC (u_lays hts hin hj) hif).1
  have hv : cell.slots[f.slot]? = some (fV kk w a j) := by rw [hsl]; exact q4 j hj
  rcases hlk with hl1 | ⟨host, hl1⟩
  · exact W.getf hx hb hown (hts _ hl1) hif hst q1 (by rw [q3]; exact fun h => by cases h) hv rfl rfl hd (k H locs ls hi hl)
  · exact va_Wgetf hx hb hown (va_Nw.use rfl (hT.2.1 _ (zNw_in hl1 rfl))) hif hst q1 (by rw [q3]; exact fun h => by cases h) hv rfl rfl hd (k H locs ls hi hl)
theorem fV_I {kk j : Nat} (h : zRf (zFT kk j) = false) (w : zWd) (a : Nat) : fV kk w a j = .int (wI w a j) := by simp [fV, h]
theorem fV_R {kk j : Nat} (h : zRf (zFT kk j) = true) (w : zWd) (a : Nat) : fV kk w a j = va_rf (wR w a j) := by simp [fV, h]
theorem y_getI (C : zCx K cc own nL d) {idx kk j a : Nat} (hf : zFL own idx kk j) (hrf : zRf (zFT kk j) = false) (hd : decode cc pc = .ok (.getfield idx, 3)) (hsh : kF K w → wSh w a = (kk + 1, 0)) (k : zY K w L (pc + 3) (.int (wI w a j) :: st)) : zY K w L pc (.ref a :: st) :=
  y_getf C hf hd hsh (by rw [fV_I hrf]; exact k)
theorem y_getQ (C : zCx K cc own nL d) {idx kk j a : Nat} (hf : zFL own idx kk j) (hrf : zRf (zFT kk j) = true) (hd : decode cc pc = .ok (.getfield idx, 3)) (hsh : kF K w → wSh w a = (kk + 1, 0)) (k : zY K w L (pc + 3) (va_rf (wR w a j) :: st)) : zY K w L pc (.ref a :: st) :=
  y_getf C hf hd hsh (by rw [fV_R hrf]; exact k)
/-- a field that holds the reference b -/
theorem y_getR (C : zCx K cc own nL d) {idx kk j a b : Nat} (hf : zFL own idx kk j) (hrf : zRf (zFT kk j) = true) (hd : decode cc pc = .ok (.getfield idx, 3)) (hsh : kF K w → wSh w a = (kk + 1, 0) ∧ wR w a j = some b) (k : zY K w L (pc + 3) (.ref b :: st)) : zY K w L pc (.ref a :: st) := fun H locs ls hi hl => by
  have hb := (hsh hi.2.2).2
  refine y_getQ C hf hrf hd (fun h => (hsh h).1) ?_ H locs ls hi hl
  rw [hb]
  exact k
/-- the store of v into the field j of a -/
theorem y_putf (C : zCx K cc own nL d) {idx kk j a : Nat} {v : Value} {w' : zWd} (hf : zFL own idx kk j) (hnf : zNF kk j ∨ (zFN own idx kk j ∧ (kM K).name = "<init>")) (hn : narrow (zFT kk j) v = v) (hfit : fits (zFT kk j) v = true) (hd : decode cc pc = .ok (.putfield idx, 3)) (hsh : kF K w → wSh w a = (kk + 1, 0))
    (h1 : w'.1 = w.1) (h2 : ∀ b, wSh w' b = wSh w b) (h3 : ∀ b, b ≠ a → wR w' b = wR w b) (h4 : ∀ b, b ≠ a → wI w' b = wI w b) (h5 : ∀ j', fV kk w' a j' = updV (fV kk w a) j v j') (h6 : kF K w → kF K w')
    (k : zY K w' L (pc + 3) st) : zY K w L pc (v :: .ref a :: st) := fun H locs ls hi hl => by
  obtain ⟨CN, T, N, hc, hk50, hj, hin, hty, hnm, hlk⟩ := hf
  obtain ⟨hS, hsim, hF⟩ := id hi
  obtain ⟨r, hr, cell, q1, q2, q3, q4⟩ := (hsim.2.2.2.2.2.1 a).1 kk 0 (hsh hF) hk50
  cases Option.some.inj (hr.symm.trans hc)
  obtain ⟨hx, hb, hml, hown, hts, hT, -⟩ := C
  obtain ⟨hSl, hfc, kC, hkC, hkind⟩ := hT.1.1 kk _ hc
  obtain ⟨cf, kf, fi, f, hif, hsl⟩ := hSl j hj
  have hst := (u_facts hfc hkC (u_lays hts hin hj) hif).1
  have hap := va_apart (own := own) hts hin (zFT kk) hty hnm hT.1 hc
  have hAz : eZ (kE K) ≤ a := hsim.2.2.2.2.2.2 a (by rw [hsh hF]; exact Nat.succ_ne_zero kk)
  have go : ∀ H' : Heap, H'[a]? = some (cell.setSlot f.slot v) → H'.size = H.size → (∀ q, q ≠ a → H'[q]? = H[q]?) → zW K H' (locs ++ [⟨a, f.slot⟩]) (F0 (km K) (pc + 3) ls st) := by
    intro H' e1 e2 e3
    refine k H' _ ls ⟨hS.put e2 e3 hAz, ?_, h6 hF⟩ hl
    refine hsim.write e2 e3 q1 e1 (Cell_setSlot_size _ _ _) h1 h2 h3 h4 ⟨fun k' n' hs' hk' => ?_, fun t n' hs' => ?_⟩
    · rw [h2, hsh hF] at hs'
      cases hs'
      refine ⟨_, hc, cell.setSlot f.slot v, e1, q2, q3, fun j' hj' => ?_⟩
      rw [hsl]
      have := t_set q4 hap hj v j' hj'
      rw [this]
      exact congrArg some (h5 j').symm
    · rw [h2, hsh hF] at hs'
      have := congrArg Prod.fst hs'
      dsimp only at this
      omega
  rcases hnf with hnf | ⟨hfn, hnm9⟩
  · have hlay := hts _ (hin _ (u_in_lay hj))
    unfold u_lay at hlay
    rw [if_neg (by rw [hnf CN T N hc]; decide)] at hlay
    have h6' := u_store hfc hkC hkind hlay hif (hty j hj) hn hfit
    rcases hlk with hl1 | ⟨host, hl1⟩
    · exact W.putK hx hb (f := f) ⟨hown, hts _ hl1, ⟨_, _, _, hif⟩, hst⟩ (by rw [q2]; exact h6') q1 q3 (by rw [hsl]; exact k2_hasslot (q4 j hj)) rfl rfl hd (fun H' e1 e2 e3 => zW.of (go H' e1 e2 e3))
    · exact va_WputK hx hb (f := f) hown (va_Nw.use rfl (hT.2.1 _ (zNw_in hl1 rfl))) hif hst (by rw [q2]; exact h6') q1 q3 (by rw [hsl]; exact k2_hasslot (q4 j hj)) rfl rfl hd (fun H' e1 e2 e3 => zW.of (go H' e1 e2 e3))
  · obtain ⟨hfin, hdecl, hl1⟩ := hfn CN T N hc
    have hlay := hts _ (hin _ (u_in_lay hj))
    unfold u_lay at hlay
    rw [if_pos hfin] at hlay
    have hcf : (km K).cls = cf := by
      obtain ⟨_, _, c', _, _, _, -, -, hf', -, -, -, hown2, -⟩ := Cond.laysFinal_spec hlay
      have e1 : c' = cf := by have := hif.symm.trans hf'; simp at this; exact this.1.symm
      rw [hdecl] at hown2
      rw [← e1]; exact Option.some.inj (hown.symm.trans hown2)
    have h6' := u_fits hfc hkC hkind (Or.inr hlay) hif (hty j hj) hn hfit
    exact W.putFinK hx hb hown (hts _ hl1) hif hst hcf hnm9 (by rw [q2]; exact h6') q1 q3 (by rw [hsl]; exact k2_hasslot (q4 j hj)) rfl rfl hd (fun H' e1 e2 e3 => zW.of (go H' e1 e2 e3))
/-- an int that a field or a result of the type ty holds as it is -/
def zOk (ty : FieldType) (x : Int32) : Prop := narrow ty (.int x) = .int x ∧ fits ty (.int x) = true
theorem zOk_int (x : Int32) : zOk .int x := ⟨rfl, rfl⟩
theorem zOk_bool {x : Int32} (h : x = 0 ∨ x = 1) : zOk .boolean x := by rcases h with rfl | rfl <;> exact ⟨by decide, by decide⟩
theorem y_putI (C : zCx K cc own nL d) {idx kk j a : Nat} {x : Int32} (hf : zFL own idx kk j) (hrf : zRf (zFT kk j) = false) (hnf : zNF kk j) (hok : zOk (zFT kk j) x) (hd : decode cc pc = .ok (.putfield idx, 3)) (hsh : kF K w → wSh w a = (kk + 1, 0)) (k : zY K (putI w a (upd (wI w a) j x)) L (pc + 3) st) : zY K w L pc (.int x :: .ref a :: st) := by
  refine y_putf C hf (Or.inl hnf) hok.1 hok.2 hd hsh (w' := putI w a (upd (wI w a) j x)) rfl (fun _ => rfl) (fun _ _ => rfl) (fun b hb => wI_ne w _ hb) (fun j' => ?_) (fun h => C.2.2.2.2.2.2.2.2.2.2.2.2.2 w a _ h) k
  by_cases hj : j' = j
  · subst hj
    rw [fV_I hrf, wI_same]
    simp [updV, upd]
  · simp only [updV, if_neg hj, fV, wR_putI, wI_same, upd]
/-- a reference fits a field of a reference's type -/
theorem zRf_ok {ty : FieldType} (h : zRf ty = true) (x : Option Nat) : narrow ty (va_rf x) = va_rf x ∧ fits ty (va_rf x) = true := by
  cases ty <;> first | (simp [zRf] at h; done) | (cases x <;> exact ⟨rfl, rfl⟩)
theorem y_putR (C : zCx K cc own nL d) {idx kk j a : Nat} {x : Option Nat} (hf : zFL own idx kk j) (hrf : zRf (zFT kk j) = true) (hnf : zNF kk j ∨ (zFN own idx kk j ∧ (kM K).name = "<init>")) (hd : decode cc pc = .ok (.putfield idx, 3)) (hsh : kF K w → wSh w a = (kk + 1, 0)) (hF : kF K w → kF K (putR w a (va_up (wR w a) j x))) (k : zY K (putR w a (va_up (wR w a) j x)) L (pc + 3) st) : zY K w L pc (va_rf x :: .ref a :: st) := by
  refine y_putf C hf hnf (zRf_ok hrf x).1 (zRf_ok hrf x).2 hd hsh (w' := putR w a (va_up (wR w a) j x)) rfl (fun _ => rfl) (fun b hb => wR_ne w _ hb) (fun _ _ => rfl) (fun j' => ?_) hF k
  by_cases hj : j' = j
  · subst hj
    rw [fV_R hrf, wR_same]
    simp [updV, va_up]
  · simp only [updV, if_neg hj, fV, wI_putR, wR_same, va_up]
/-- a final int in its constructor -/
theorem y_putIF (C : zCx K cc own nL d) {idx kk j a : Nat} {x : Int32} (hf : zFL own idx kk j) (hrf : zRf (zFT kk j) = false) (hnf : zFN own idx kk j) (hnm : (kM K).name = "<init>") (hok : zOk (zFT kk j) x) (hd : decode cc pc = .ok (.putfield idx, 3)) (hsh : kF K w → wSh w a = (kk + 1, 0)) (k : zY K (putI w a (upd (wI w a) j x)) L (pc + 3) st) : zY K w L pc (.int x :: .ref a :: st) := by
  refine y_putf C hf (Or.inr ⟨hnf, hnm⟩) hok.1 hok.2 hd hsh (w' := putI w a (upd (wI w a) j x)) rfl (fun _ => rfl) (fun _ _ => rfl) (fun b hb => wI_ne w _ hb) (fun j' => ?_) (fun h => C.2.2.2.2.2.2.2.2.2.2.2.2.2 w a _ h) k
  by_cases hj : j' = j
  · subst hj
    rw [fV_I hrf, wI_same]
    simp [updV, upd]
  · simp only [updV, if_neg hj, fV, wR_putI, wI_same, upd]
/-- what is known of an array of ours -/
theorem z_arr (C : zCx K cc own nL d) {t n a : Nat} {H : Heap} {locs : List Loc} (ht : t < 8) (hi : zIn K w H locs) (hsh : wSh w a = (t + 51, n)) : H[a]? = some (arrV (eT (kE K) t) n (fun j => elV t w a j)) ∧ (∀ z : Nat → Value, (ks K).isArrayOf (arrV (eT (kE K) t) n z) (zTy t)) ∧ va_RA (ks K) (eT (kE K) t) (zTy t) ∧ eZ (kE K) ≤ a := by
  obtain ⟨hS, hsim, hF⟩ := hi
  have hk := C.2.2.2.2.2.1.1.2 t (eT (kE K) t, zTy t) (by unfold zTl; rw [List.getElem?_map, List.getElem?_range ht]; rfl)
  exact ⟨(hsim.2.2.2.2.2.1 a).2 t n hsh, hk.1 n, hk.2, hsim.2.2.2.2.2.2 a (by rw [hsh]; exact Nat.succ_ne_zero _)⟩
theorem zvin {x : Int32} {n : Nat} {cA : ClassId} {f : Nat → Value} (hin : vp_in x n) : ¬ (x < 0 ∨ (arrV cA n f).slots.size ≤ x.toNatClampNeg) := by rw [arrV_size]; exact hin
theorem zvlt {x : Int32} {n : Nat} (hin : vp_in x n) : x.toNatClampNeg < n := Nat.not_le.mp fun q => hin (Or.inr q)
theorem y_iald (C : zCx K cc own nL d) {a n : Nat} {x : Int32} (hd : decode cc pc = .ok (.iaload, 1)) (hsh : kF K w → wSh w a = (51, n)) (hin : vp_in x n) (k : zY K w L (pc + 1) (.int (wI w a x.toNatClampNeg) :: st)) : zY K w L pc (.int x :: .ref a :: st) := fun H locs ls hi hl => by
  obtain ⟨h1, h2, -, -⟩ := z_arr C (t := 0) (by decide) hi (hsh hi.2.2)
  exact W.iald C.1 C.2.1 h1 (h2 _) (fun q => by cases q) (zvin hin) (arrV_read _ _ (zvlt hin)) rfl rfl hd (k H locs ls hi hl)
theorem y_bald (C : zCx K cc own nL d) {a n : Nat} {x : Int32} (hd : decode cc pc = .ok (.baload, 1)) (hsh : kF K w → wSh w a = (52, n)) (hin : vp_in x n) (k : zY K w L (pc + 1) (.int (wI w a x.toNatClampNeg) :: st)) : zY K w L pc (.int x :: .ref a :: st) := fun H locs ls hi hl => by
  obtain ⟨h1, h2, -, -⟩ := z_arr C (t := 1) (by decide) hi (hsh hi.2.2)
  exact W.bald C.1 C.2.1 h1 (h2 _) (fun q => by cases q) (zvin hin) (arrV_read _ _ (zvlt hin)) rfl rfl hd (k H locs ls hi hl)
theorem y_lald (C : zCx K cc own nL d) {a n : Nat} {x : Int32} (hd : decode cc pc = .ok (.laload, 1)) (hsh : kF K w → wSh w a = (53, n)) (hin : vp_in x n) (k : zY K w L (pc + 1) (.long (wI w a x.toNatClampNeg).toInt64 :: st)) : zY K w L pc (.int x :: .ref a :: st) := fun H locs ls hi hl => by
  obtain ⟨h1, h2, -, -⟩ := z_arr C (t := 2) (by decide) hi (hsh hi.2.2)
  exact W.lald C.1 C.2.1 h1 (h2 _) (fun q => by cases q) (zvin hin) (arrV_read _ _ (zvlt hin)) rfl rfl hd (k H locs ls hi hl)
theorem elV_q {t : Nat} (ht : 3 ≤ t) (w : zWd) (a j : Nat) : elV t w a j = va_rf (wR w a j) := by
  obtain ⟨m, rfl⟩ : ∃ m, t = m + 3 := ⟨t - 3, by omega⟩
  rfl
theorem y_aaldQ (C : zCx K cc own nL d) {t a n : Nat} {x : Int32} (ht : 3 ≤ t) (ht8 : t < 8) (href : (zTy t).isReference = true) (hd : decode cc pc = .ok (.aaload, 1)) (hsh : kF K w → wSh w a = (t + 51, n)) (hin : vp_in x n) (k : zY K w L (pc + 1) (va_rf (wR w a x.toNatClampNeg) :: st)) : zY K w L pc (.int x :: .ref a :: st) := fun H locs ls hi hl => by
  obtain ⟨h1, h2, -, -⟩ := z_arr C ht8 hi (hsh hi.2.2)
  refine W.aald (ty := zTy t) C.1 C.2.1 h1 (h2 _) href (fun q => by cases q) (zvin hin) (arrV_read _ _ (zvlt hin)) rfl rfl hd ?_
  rw [elV_q ht]
  exact k H locs ls hi hl
theorem y_aald (C : zCx K cc own nL d) {t a n b : Nat} {x : Int32} (ht : 3 ≤ t) (ht8 : t < 8) (href : (zTy t).isReference = true) (hd : decode cc pc = .ok (.aaload, 1)) (hin : vp_in x n) (hsh : kF K w → wSh w a = (t + 51, n) ∧ wR w a x.toNatClampNeg = some b) (k : zY K w L (pc + 1) (.ref b :: st)) : zY K w L pc (.int x :: .ref a :: st) := fun H locs ls hi hl => by
  have hb := (hsh hi.2.2).2
  refine y_aaldQ C ht ht8 href hd (fun h => (hsh h).1) hin ?_ H locs ls hi hl
  rw [hb]
  exact k
theorem y_alen (C : zCx K cc own nL d) {t a n : Nat} (ht8 : t < 8) (hd : decode cc pc = .ok (.arraylength, 1)) (hsh : kF K w → wSh w a = (t + 51, n)) (k : zY K w L (pc + 1) (.int (nI n) :: st)) : zY K w L pc (.ref a :: st) := fun H locs ls hi hl => by
  obtain ⟨h1, h2, -, -⟩ := z_arr C ht8 hi (hsh hi.2.2)
  exact W.alen (n := nI n) C.1 C.2.1 h1 (h2 _) (by rw [arrV_size]; rfl) rfl rfl hd (k H locs ls hi hl)
/-- a cell of an array has been written -/
theorem z_stA (C : zCx K cc own nL d) {t n a i : Nat} {v : Value} {w' : zWd} {H H' : Heap} {locs : List Loc} (ht : t < 8) (hi : zIn K w H locs) (hsh : wSh w a = (t + 51, n)) (e1 : H'[a]? = some ((arrV (eT (kE K) t) n (fun j => elV t w a j)).setSlot i v)) (e2 : H'.size = H.size) (e3 : ∀ q, q ≠ a → H'[q]? = H[q]?)
    (h1 : w'.1 = w.1) (h2 : ∀ b, wSh w' b = wSh w b) (h3 : ∀ b, b ≠ a → wR w' b = wR w b) (h4 : ∀ b, b ≠ a → wI w' b = wI w b) (h5 : ∀ j, elV t w' a j = updV (fun j => elV t w a j) i v j) (h6 : kF K w → kF K w') : zIn K w' H' (locs ++ [⟨a, i⟩]) := by
  obtain ⟨g1, g2, g3, g4⟩ := z_arr C ht hi hsh
  obtain ⟨hS, hsim, hF⟩ := hi
  refine ⟨hS.put e2 e3 g4, hsim.write e2 e3 g1 e1 (Cell_setSlot_size _ _ _) h1 h2 h3 h4 ⟨fun k' n' hs' hk' => ?_, fun t' n' hs' => ?_⟩, h6 hF⟩
  · rw [h2, hsh] at hs'
    have := congrArg Prod.fst hs'
    dsimp only at this
    omega
  · rw [h2, hsh] at hs'
    have ht' : t' = t := by
      have := congrArg Prod.fst hs'
      dsimp only at this
      omega
    have hn' : n' = n := (congrArg Prod.snd hs').symm
    subst ht'; subst hn'
    rw [e1, arrV_store]
    congr 2
    funext j
    exact (h5 j).symm
theorem y_iast (C : zCx K cc own nL d) {a n : Nat} {x v : Int32} (hd : decode cc pc = .ok (.iastore, 1)) (hsh : kF K w → wSh w a = (51, n)) (hin : vp_in x n) (k : zY K (putI w a (upd (wI w a) x.toNatClampNeg v)) L (pc + 1) st) : zY K w L pc (.int v :: .int x :: .ref a :: st) := fun H locs ls hi hl => by
  obtain ⟨h1, h2, -, -⟩ := z_arr C (t := 0) (by decide) hi (hsh hi.2.2)
  refine W.iast C.1 C.2.1 h1 (h2 _) (fun q => by cases q) (zvin hin) rfl rfl hd (fun H' e1 e2 e3 => zW.of (k H' _ ls (z_stA C (t := 0) (by decide) hi (hsh hi.2.2) e1 e2 e3 rfl (fun _ => rfl) (fun _ _ => rfl) (fun b hb => wI_ne w _ hb) (fun j => ?_) (fun h => C.2.2.2.2.2.2.2.2.2.2.2.2.2 w a _ h)) hl))
  show Value.int _ = _
  rw [wI_same]
  by_cases hj : j = x.toNatClampNeg
  · simp [updV, upd, hj]
  · simp [updV, upd, hj, elV]
theorem y_bast (C : zCx K cc own nL d) {a n : Nat} {x v : Int32} (hd : decode cc pc = .ok (.bastore, 1)) (hsh : kF K w → wSh w a = (52, n)) (hin : vp_in x n) (k : zY K (putI w a (upd (wI w a) x.toNatClampNeg v.toInt8.toInt32)) L (pc + 1) st) : zY K w L pc (.int v :: .int x :: .ref a :: st) := fun H locs ls hi hl => by
  obtain ⟨h1, h2, -, -⟩ := z_arr C (t := 1) (by decide) hi (hsh hi.2.2)
  refine W.bast C.1 C.2.1 h1 (h2 _) (fun q => by cases q) (zvin hin) rfl rfl hd (fun H' e1 e2 e3 => zW.of (k H' _ ls (z_stA C (t := 1) (by decide) hi (hsh hi.2.2) e1 e2 e3 rfl (fun _ => rfl) (fun _ _ => rfl) (fun b hb => wI_ne w _ hb) (fun j => ?_) (fun h => C.2.2.2.2.2.2.2.2.2.2.2.2.2 w a _ h)) hl))
  show Value.int _ = _
  rw [wI_same, narrow_byte]
  by_cases hj : j = x.toNatClampNeg
  · simp [updV, upd, hj]
  · simp [updV, upd, hj, elV]
theorem y_last (C : zCx K cc own nL d) {a n : Nat} {x v : Int32} {y : Int64} (hy : y = v.toInt64) (hd : decode cc pc = .ok (.lastore, 1)) (hsh : kF K w → wSh w a = (53, n)) (hin : vp_in x n) (k : zY K (putI w a (upd (wI w a) x.toNatClampNeg v)) L (pc + 1) st) : zY K w L pc (.long y :: .int x :: .ref a :: st) := fun H locs ls hi hl => by
  subst hy
  obtain ⟨h1, h2, -, -⟩ := z_arr C (t := 2) (by decide) hi (hsh hi.2.2)
  refine W.last C.1 C.2.1 h1 (h2 _) (fun q => by cases q) (zvin hin) rfl rfl hd (fun H' e1 e2 e3 => zW.of (k H' _ ls (z_stA C (t := 2) (by decide) hi (hsh hi.2.2) e1 e2 e3 rfl (fun _ => rfl) (fun _ _ => rfl) (fun b hb => wI_ne w _ hb) (fun j => ?_) (fun h => C.2.2.2.2.2.2.2.2.2.2.2.2.2 w a _ h)) hl))
  show Value.long _ = _
  rw [wI_same]
  by_cases hj : j = x.toNatClampNeg
  · simp [updV, upd, hj]
  · simp [updV, upd, hj, elV]
/-- the class of the object at v may lie in a row of the type t -/
def zAsg (kk t : Nat) : Prop := ∃ (CN : String) (T : u_T) (N : Nat) (CT : String), zCl[kk]? = some (CN, T, N) ∧ kk < 50 ∧ zTy t = .object CT ∧ (CN = CT ∨ Cond.castable CN CT ∈ lw_tbl)
theorem y_aast (C : zCx K cc own nL d) {t a n v kk : Nat} {x : Int32} (ht : 3 ≤ t) (ht8 : t < 8) (hasg : zAsg kk t) (hd : decode cc pc = .ok (.aastore, 1)) (hsh : kF K w → wSh w a = (t + 51, n)) (hv : kF K w → wSh w v = (kk + 1, 0)) (hin : vp_in x n) (hF : kF K w → kF K (putR w a (va_up (wR w a) x.toNatClampNeg (some v)))) (k : zY K (putR w a (va_up (wR w a) x.toNatClampNeg (some v))) L (pc + 1) st) : zY K w L pc (.ref v :: .int x :: .ref a :: st) := fun H locs ls hi hl => by
  obtain ⟨h1, h2, h3, -⟩ := z_arr C ht8 hi (hsh hi.2.2)
  obtain ⟨CN, T, N, CT, hc, hk50, hty, hca⟩ := hasg
  obtain ⟨r, hr, cell, q1, q2, q3, q4⟩ := (hi.2.1.2.2.2.2.2.1 v).1 kk 0 (hv hi.2.2) hk50
  cases Option.some.inj (hr.symm.trans hc)
  obtain ⟨hSl, hcls⟩ := C.2.2.2.2.2.1.1.1 kk _ hc
  rw [hty] at h3
  obtain ⟨kA, comp, k1, k2, k3, -⟩ := h3
  obtain ⟨hfc, kC, hkC, hkind⟩ := id hcls
  have hassign : (ks K).vm.assignable (eC (kE K) kk) comp = true := by
    rcases hca with e | hca
    · have hcomp : comp = eC (kE K) kk := Option.some.inj (k3.symm.trans (by rw [← e]; exact hfc))
      rw [hcomp]
      exact va_assign hcls
    · have h9 := C.2.2.2.2.2.1.2.1 _ (zNw_in hca rfl)
      obtain ⟨c3, c4, hc3, hc4, has⟩ := Cond.castable_spec (va_Nw.use (A := #[]) rfl h9)
      cases Option.some.inj (hc3.symm.trans hfc)
      cases Option.some.inj (hc4.symm.trans k3)
      exact has
  have hcomp : ∃ kcomp, (ks K).vm.classes[comp]? = some kcomp := by
    obtain ⟨k9, h9, -⟩ := Vm.findClass_spec k3
    exact ⟨k9, h9⟩
  obtain ⟨kcomp, hkcomp⟩ := hcomp
  refine W.aast C.1 C.2.1 h1 (fun q h => by cases h) (fun h => by cases h) k1 k2 rfl hkcomp ⟨fun q => hin (Or.inl q), by rw [arrV_size]; exact zvlt hin⟩ q1 (fun q h => by rw [q3] at h; cases h) (by rw [q2]; exact hkC) (by rw [q2]; exact hassign) rfl rfl hd (fun H' e1 e2 e3 => zW.of (k H' _ ls (z_stA C ht8 hi (hsh hi.2.2) e1 e2 e3 rfl (fun _ => rfl) (fun b hb => wR_ne w _ hb) (fun _ _ => rfl) (fun j => ?_) hF) hl))
  rw [elV_q ht, wR_same]
  by_cases hj : j = x.toNatClampNeg
  · simp [updV, va_up, hj, va_rf]
  · simp [updV, va_up, hj, elV_q ht]
theorem z_withT {H : Heap} {locs : List Loc} {g : JFrame} (k : ∀ T : State, T.heap = H → zSt K T locs (H.size - (ks K).heap.size) (szs H (ks K).heap.size) → zW K H locs g) : zW K H locs g := fun T hT X => k T hT X T hT X
/-- room for one more cell of n slots -/
def zRoom (z : Nat) (w : zWd) (n : Nat) : Prop := wNx w + 1 ≤ z + zCM ∧ wSl w + n ≤ zSM
/-- the entry idx of own is the class kk of N slots -/
def zNE (own : String) (idx kk N : Nat) : Prop := ∃ (CN : String) (T : u_T), zCl[kk]? = some (CN, T, N) ∧ kk < 50 ∧ (∀ w ∈ u_ws CN T N, w ∈ lw_all) ∧ (∀ k, k < N → parseFieldDescriptor (T k).2.2.1 = some (zFT kk k)) ∧ Cond.classLink own idx CN ∈ lw_all ∧ Cond.instantiable CN N ∈ lw_all ∧ Cond.initialized CN ∈ lw_all ∧ ∀ j, j < N → defaultValue (zFT kk j) = if zRf (zFT kk j) = true then .null else .int 0
theorem zIn.room {H : Heap} {locs : List Loc} {n : Nat} {T : State} {cells slots : Nat} (C : zCx K cc own nL d) (hi : zIn K w H locs) (hT : T.heap = H) (X : zSt K T locs cells slots) (hr : zRoom (eZ (kE K)) w n) : (H.size - (ks K).heap.size) + 1 ≤ (kR K).cells ∧ szs H (ks K).heap.size + n ≤ (kR K).slots := by
  have h1 := hi.cells C
  have h2 := hi.slots C (fun q c0 h => by rw [← hT]; exact z_sizes X q c0 h)
  have h3 := hr.1
  have h4 := hr.2
  have := hi.2.1.2.2.2.1
  exact ⟨by omega, by omega⟩
theorem y_new (C : zCx K cc own nL d) {idx kk N : Nat} (hn : zNE own idx kk N) (hd : decode cc pc = .ok (.new idx, 3)) (hr : zRoom (eZ (kE K)) w N) (hF : kF K w → kF K (newW w (kk + 1, 0) N)) (k : zY K (newW w (kk + 1, 0) N) L (pc + 3) (.ref (wNx w) :: st)) : zY K w L pc st := fun H locs ls hi hl => by
  obtain ⟨CN, T, hc, hk50, hin, hty, hq1, hq2, hq3, hdv⟩ := hn
  refine z_withT fun T0 hT0 X => ?_
  obtain ⟨c1, c2⟩ := hi.room C hT0 X hr
  obtain ⟨hS, hsim, hF0⟩ := id hi
  obtain ⟨hx, hb, hml, hown, hts, hT, -⟩ := id C
  have hKn := hT.1.1 kk _ hc
  refine W.newc hx hb hown (hts _ hq1) (hts _ hq2) (hts _ hq3) rfl hd c1 c2 (fun cC kC h1 h2 h3 h4 => zW.of ?_)
  have hcc : cC = eC (kE K) kk := Option.some.inj (h1.symm.trans hKn.2.1)
  subst hcc
  have e1 : (H.push (blank (eC (kE K) kk) kC))[wNx w]? = some (blank (eC (kE K) kk) kC) := by rw [← hsim.1]; simp
  rw [hsim.1]
  refine k (H.push (blank (eC (kE K) kk) kC)) locs ls ⟨⟨by rw [Array.size_push]; exact Nat.le_succ_of_le hS.1, fun q g1 g2 => ?_, hS.2.2⟩, hsim.grow rfl (by simp [blank, h4]) hr.1 hr.2 ⟨fun k' n' hs' hk' => ?_, fun t n' hs' => ?_⟩, hF hF0⟩ hl
  · rw [Array.getElem?_push, if_neg (by have := hS.1; omega)]
    exact hS.2.1 q g1 g2
  · rw [wSh_new, if_pos rfl] at hs'
    cases hs'
    refine ⟨_, hc, ?_⟩
    have hob := u_born (zFT kk) hts hin hKn h2 e1 hty
    refine hob.to fun j hj => ?_
    rw [hdv j hj, fV, wR_new, wI_new, if_pos rfl, if_pos rfl]
    split <;> rfl
  · rw [wSh_new, if_pos rfl] at hs'
    have := congrArg Prod.fst hs'
    dsimp only at this
    omega
/-- a new array's cell, in the world -/
theorem z_newA (C : zCx K cc own nL d) {t n : Nat} {cA : ClassId} {H : Heap} {locs : List Loc} (ht : t < 8) (hcA : cA = eT (kE K) t) (hi : zIn K w H locs) (hr : zRoom (eZ (kE K)) w n) (hF : kF K w → kF K (newW w (t + 51, n) n)) {f : Nat → Value} (hf : ∀ j, f j = elV t (newW w (t + 51, n) n) (wNx w) j) {c' : Cell} (hc' : c' = arrV cA n f) : zIn K (newW w (t + 51, n) n) (H.push c') locs := by
  obtain ⟨hS, hsim, hF0⟩ := id hi
  refine ⟨⟨by rw [Array.size_push]; exact Nat.le_succ_of_le hS.1, fun q g1 g2 => ?_, hS.2.2⟩, hsim.grow rfl (by rw [hc', arrV_size]) hr.1 hr.2 ⟨fun k' n' hs' hk' => ?_, fun t' n' hs' => ?_⟩, hF hF0⟩
  · rw [Array.getElem?_push, if_neg (by have := hS.1; omega)]
    exact hS.2.1 q g1 g2
  · rw [wSh_new, if_pos rfl] at hs'
    have := congrArg Prod.fst hs'
    dsimp only at this
    omega
  · rw [wSh_new, if_pos rfl] at hs'
    have ht' : t' = t := by
      have := congrArg Prod.fst hs'
      dsimp only at this
      omega
    have hn' : n' = n := (congrArg Prod.snd hs').symm
    subst ht'; subst hn'
    rw [← hsim.1, Array.getElem?_push_size, hc', hcA]
    congr 2
    funext j
    rw [hf j, hsim.1]
theorem y_newa (C : zCx K cc own nL d) {at9 : ArrayType} {t n : Nat} {x : Int32} (ht : t < 3) (hty : newarray.typeOf at9 = zTy t) (hq : Cond.arrayClass (zTy t) ∈ lw_all) (hx0 : ¬ x < 0) (hxn : x.toNatClampNeg = n) (hbig : n ≤ 60000) (hd : decode cc pc = .ok (.newarray at9, 2)) (hr : zRoom (eZ (kE K)) w n) (hF : kF K w → kF K (newW w (t + 51, n) n)) (k : zY K (newW w (t + 51, n) n) L (pc + 2) (.ref (wNx w) :: st)) : zY K w L pc (.int x :: st) := fun H locs ls hi hl => by
  subst hxn
  refine z_withT fun T0 hT0 X => ?_
  obtain ⟨c1, c2⟩ := hi.room C hT0 X hr
  have harr := C.2.2.2.2.1 _ hq
  rw [← hty] at harr
  have hbytes : x.toNatClampNeg * componentBytes (newarray.typeOf at9) ≤ 536870912 := by
    have : componentBytes (newarray.typeOf at9) ≤ 8 := by cases at9 <;> decide
    calc x.toNatClampNeg * componentBytes (newarray.typeOf at9) ≤ 60000 * 8 := Nat.mul_le_mul hbig this
      _ ≤ 536870912 := by decide
  refine W.newa C.1 C.2.1 harr rfl hd rfl hx0 hbytes c1 c2 (fun cA kA comp h1 h2 h3 => zW.of ?_)
  have hRA := C.2.2.2.2.2.1.1.2 t (eT (kE K) t, zTy t) (by unfold zTl; rw [List.getElem?_map, List.getElem?_range (by omega)]; rfl)
  have hcA : cA = eT (kE K) t := by
    have h9 := hRA.2
    dsimp only at h9
    rw [hty] at h1
    match t, ht, h9, h1 with
    | 0, _, h9, h1 => exact Option.some.inj (h1.symm.trans h9)
    | 1, _, h9, h1 => exact Option.some.inj (h1.symm.trans h9)
    | 2, _, h9, h1 => exact Option.some.inj (h1.symm.trans h9)
  rw [hi.2.1.1]
  refine k _ locs ls (z_newA C (t := t) (n := x.toNatClampNeg) (by omega) hcA hi hr hF (f := fun _ => defaultValue (newarray.typeOf at9)) (fun j => ?_) (arrV_new _ _ _)) hl
  rw [hty]
  match t, ht with
  | 0, _ => rw [elV, wI_new, if_pos rfl]; rfl
  | 1, _ => rw [elV, wI_new, if_pos rfl]; rfl
  | 2, _ => rw [elV, wI_new, if_pos rfl]; rfl
theorem y_anewa (C : zCx K cc own nL d) {idx t n : Nat} {x : Int32} {CN : String} (ht3 : 3 ≤ t) (ht : t < 8) (hty : zTy t = .object CN) (hq : Cond.classLink own idx CN ∈ lw_all) (hx0 : ¬ x < 0) (hxn : x.toNatClampNeg = n) (hbig : n ≤ 60000) (hd : decode cc pc = .ok (.anewarray idx, 3)) (hr : zRoom (eZ (kE K)) w n) (hF : kF K w → kF K (newW w (t + 51, n) n)) (k : zY K (newW w (t + 51, n) n) L (pc + 3) (.ref (wNx w) :: st)) : zY K w L pc (.int x :: st) := fun H locs ls hi hl => by
  subst hxn
  refine z_withT fun T0 hT0 X => ?_
  obtain ⟨c1, c2⟩ := hi.room C hT0 X hr
  obtain ⟨C9, e9, hao⟩ := C.2.2.2.2.2.1.2.2.1 t ht3 ht
  have e10 : C9 = CN := by rw [hty] at e9; cases e9; rfl
  subst e10
  refine W.anew C.1 C.2.1 C.2.2.2.1 (C.2.2.2.2.1 _ hq) (va_AO.use hao) rfl hd rfl hx0 (by omega) c1 c2 (fun cA kA comp f1 f2 f3 f4 => zW.of ?_)
  have hRA := C.2.2.2.2.2.1.1.2 t (eT (kE K) t, zTy t) (by unfold zTl; rw [List.getElem?_map, List.getElem?_range ht]; rfl)
  have hcA : cA = eT (kE K) t := by
    have h9 := hRA.2
    dsimp only at h9
    rw [hty] at h9
    obtain ⟨-, -, -, -, -, h10⟩ := h9
    exact Option.some.inj (f1.symm.trans h10)
  rw [hi.2.1.1]
  refine k _ locs ls (z_newA C (t := t) (n := x.toNatClampNeg) ht hcA hi hr hF (f := fun _ => .null) (fun j => ?_) (arrV_new _ _ _)) hl
  rw [elV_q ht3, wR_new, if_pos rfl]
  rfl
theorem y_objInit (C : zCx K cc own nL d) (hd1 : 1 ≤ d) {idx a : Nat} (hq1 : Cond.methodLink own idx Lib.objectInit ∈ lw_all) (hq2 : Cond.instanceMethod Lib.objectInit ∈ lw_all) (hq3 : Cond.code Lib.objectInit ⟨#[0xb1]⟩ 1 none ∈ lw_all) (hst : (st.map fun v => v.category).sum ≤ 60) (hd : decode cc pc = .ok (.invokespecial idx, 3)) (k : zY K w L (pc + 3) st) : zY K w L pc (.ref a :: st) := fun H locs ls hi hl => by
  have h8 := C.2.2.2.2.2.2.2.2.1
  have h9 := C.2.2.2.2.2.2.2.2.2.1
  refine W.objInit C.1 C.2.1 C.2.2.2.1 (C.2.2.2.2.1 _ hq1) (C.2.2.2.2.1 _ hq2) (C.2.2.2.2.1 _ hq3) rfl hl.1.1 rfl hd (by omega) ?_ (k H locs ls hi hl)
  show 2 * 0 + _ + 12 ≤ _
  omega
end Heap
