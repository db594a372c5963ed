/-! OWN LAYER, 8: the lasting objects and their places; the wp words (loops, branches) -/
set_option maxRecDepth 100000
/-- a branch -/
def br (c A B : Prop) : Prop := (c → A) ∧ (¬ c → B)
/-- a new world, named -/
def bd {α : Type} (x : α) (f : α → Prop) : Prop := f x
def itr {σ : Type} (body : (σ → Prop) → σ → Prop) : Nat → σ → Prop
  | 0 => fun _ => False
  | n + 1 => fun s => body (itr body n) s
/-- a loop -/
def lp {σ : Type} (body : (σ → Prop) → σ → Prop) (s : σ) : Prop := ∃ n, itr body n s
theorem zbd {K : zK} {L : List (Nat × Value)} {pc : Nat} {st : List Value} {W0 : zWd} {f : zWd → Prop} (h : bd W0 f) (k : ∀ w1, f w1 → zY K w1 L pc st) : zY K W0 L pc st := k W0 h
def aB (z : Nat) : Nat := z
def aRd (z : Nat) : Nat := z + 1
def aTape (z : Nat) : Nat := z + 2
def aWords (z : Nat) : Nat := z + 3
def aTags (z : Nat) : Nat := z + 4
def aLines (z : Nat) : Nat := z + 5
def aDraft (z : Nat) : Nat := z + 6
def aWrong (z : Nat) : Nat := z + 45
def aNow (z : Nat) : Nat := z + 46
def aImg (z : Nat) : Nat := z + 85
def aPut (z : Nat) : Nat := z + 124
def aActs (z : Nat) : Nat := z + 163
def aSteps (z : Nat) : Nat := z + 164
def aLeast (z : Nat) : Nat := z + 165
def aGains (z : Nat) : Nat := z + 166
def aRow (z : Nat) : Nat := z + 167
def aBest (z : Nat) : Nat := z + 168
def aWhose (z : Nat) : Nat := z + 169
def aSeen (z : Nat) : Nat := z + 170
def aAct (z k : Nat) : Nat := z + 171 + 39 * k
def aStp (z k : Nat) : Nat := z + 639 + 39 * k
def aM (z : Nat) : Nat := z + 834
def aMW (z : Nat) : Nat := z + 835
def aMImg (z : Nat) : Nat := z + 836
def aMBef (z : Nat) : Nat := z + 837
def aMTri (z : Nat) : Nat := z + 838
def aMAct (z : Nat) : Nat := z + 839
def aMTap (z : Nat) : Nat := z + 840
def aMFiv (z : Nat) : Nat := z + 841
def aMVal (z : Nat) : Nat := z + 842
def aMMor (z : Nat) : Nat := z + 843
def aMRow (z : Nat) : Nat := z + 844
def aMBes (z : Nat) : Nat := z + 845
def aMTog (z : Nat) : Nat := z + 846
def aOut (z : Nat) : Nat := z + 847
def zPM : Nat := 848
def aWo (S k : Nat) : Nat := S + 7 + 2 * k
def aTh (S k : Nat) : Nat := S + 23 + 2 * k
def aL (a : Nat) : Nat := a + 1
def aSW (S : Nat) : Nat := S + 1
def aST (S : Nat) : Nat := S + 2
def aSL (S : Nat) : Nat := S + 3
def aSF (S : Nat) : Nat := S + 4
def aSV (S : Nat) : Nat := S + 5
def aSR (S : Nat) : Nat := S + 6
/-- the places of the States -/
def IsSt (z S : Nat) : Prop := S = z + 6 ∨ S = z + 46 ∨ S = z + 85 ∨ S = z + 124 ∨ (∃ k, k < 12 ∧ S = z + 171 + 39 * k) ∨ ∃ k, k < 5 ∧ S = z + 639 + 39 * k
def IsWo (z a : Nat) : Prop := ∃ S k, IsSt z S ∧ k < 8 ∧ a = aWo S k
def IsTh (z a : Nat) : Prop := ∃ S k, IsSt z S ∧ k < 8 ∧ a = aTh S k
theorem st_draft (z : Nat) : IsSt z (aDraft z) := Or.inl rfl
theorem st_now (z : Nat) : IsSt z (aNow z) := Or.inr (Or.inl rfl)
theorem st_img (z : Nat) : IsSt z (aImg z) := Or.inr (Or.inr (Or.inl rfl))
theorem st_put (z : Nat) : IsSt z (aPut z) := Or.inr (Or.inr (Or.inr (Or.inl rfl)))
theorem st_act (z : Nat) {k : Nat} (h : k < 12) : IsSt z (aAct z k) := Or.inr (Or.inr (Or.inr (Or.inr (Or.inl ⟨k, h, rfl⟩))))
theorem st_stp (z : Nat) {k : Nat} (h : k < 5) : IsSt z (aStp z k) := Or.inr (Or.inr (Or.inr (Or.inr (Or.inr ⟨k, h, rfl⟩))))
theorem wo_of {z S k : Nat} (hS : IsSt z S) (h : k < 8) : IsWo z (aWo S k) := ⟨S, k, hS, h, rfl⟩
theorem th_of {z S k : Nat} (hS : IsSt z S) (h : k < 8) : IsTh z (aTh S k) := ⟨S, k, hS, h, rfl⟩
theorem IsSt.lt {z S : Nat} (h : IsSt z S) : z ≤ S ∧ S + 39 ≤ z + 834 := by
  rcases h with h | h | h | h | ⟨k, hk, h⟩ | ⟨k, hk, h⟩ <;> omega
/-- one State's cells -/
def zWS (w : zWd) (S : Nat) : Prop := wSh w S = (3, 0) ∧ (∀ j, j < 6 → wR w S j = some (S + 1 + j)) ∧ wSh w (S + 1) = (56, 8) ∧ wSh w (S + 2) = (57, 8) ∧ wSh w (S + 3) = (55, 12) ∧ wSh w (S + 4) = (51, 10) ∧ wSh w (S + 5) = (51, 4) ∧ wSh w (S + 6) = (51, 240) ∧
  (∀ k, k < 8 → wR w (S + 1) k = some (aWo S k) ∧ wSh w (aWo S k) = (4, 0) ∧ wR w (aWo S k) 0 = some (aWo S k + 1) ∧ wSh w (aWo S k + 1) = (51, 4)) ∧
  (∀ k, k < 8 → wR w (S + 2) k = some (aTh S k) ∧ wSh w (aTh S k) = (5, 0) ∧ wR w (aTh S k) 0 = some (aTh S k + 1) ∧ wSh w (aTh S k + 1) = (51, 4))
/-- a row of lines holds lines -/
def zLn (w : zWd) (a : Nat) : Prop := ∀ i, i < 12 → ∀ y, wR w a i = some y → wSh w y = (13, 0) ∨ wSh w y = (14, 0) ∨ wSh w y = (15, 0)
/-- shapes of the single lasting cells, by their places -/
def zPS : List (Nat × (Nat × Nat)) := [(0, (1, 0)), (1, (2, 0)), (2, (52, 400)), (3, (54, 7)), (4, (54, 3)), (5, (55, 12)), (45, (6, 0)), (163, (58, 12)), (164, (58, 5)), (165, (51, 256)), (166, (51, 40)), (167, (51, 5)), (168, (51, 5)), (169, (51, 5)), (170, (51, 100)), (834, (7, 0)), (835, (51, 2075)), (836, (51, 1226)), (837, (51, 1226)), (838, (51, 377)), (839, (51, 4524)), (840, (52, 400)), (841, (51, 5)), (842, (51, 400)), (843, (51, 4)), (844, (51, 5)), (845, (51, 5)), (846, (51, 1536)), (847, (53, 1))]
/-- references of the single lasting objects: object, field, place -/
def zPR : List (Nat × Nat × Nat) := [(0, 0, 1), (0, 1, 46), (0, 2, 85), (0, 3, 124), (0, 4, 163), (0, 5, 164), (0, 6, 165), (0, 7, 166), (0, 8, 167), (0, 9, 168), (0, 10, 169), (0, 11, 170), (1, 0, 2), (1, 1, 3), (1, 2, 4), (1, 3, 5), (1, 4, 6), (1, 5, 45), (834, 1, 835), (834, 2, 836), (834, 3, 837), (834, 4, 838), (834, 5, 839), (834, 8, 840), (834, 15, 841), (834, 17, 842), (834, 18, 843), (834, 19, 844), (834, 20, 845), (834, 22, 846)]
def zWF (E : zEv) (w : zWd) : Prop := eZ E + zPM ≤ wNx w ∧ (∀ a, wNx w ≤ a → (wSh w a).1 = 0) ∧ (∀ q ∈ zPS, wSh w (eZ E + q.1) = q.2) ∧ (∀ q ∈ zPR, wR w (eZ E + q.1) q.2.1 = some (eZ E + q.2.2)) ∧ (∀ S, IsSt (eZ E) S → zWS w S) ∧
  (∀ k, k < 7 → wR w (eZ E + 3) k = some (eS E k)) ∧ (∀ k, k < 3 → wR w (eZ E + 4) k = some (eS E (7 + k))) ∧ (∀ k, k < 12 → wR w (eZ E + 163) k = some (aAct (eZ E) k)) ∧ (∀ k, k < 5 → wR w (eZ E + 164) k = some (aStp (eZ E) k)) ∧
  zLn w (eZ E + 5) ∧ ∀ S, IsSt (eZ E) S → zLn w (S + 3)
theorem zWF_I {E : zEv} : ∀ (w : zWd) (a : Nat) (f : Nat → Int32), zWF E w → zWF E (putI w a f) := fun _ _ _ h => h
theorem wf_s {E : zEv} {w : zWd} (o : Nat) (k : Nat × Nat) (h : (o, k) ∈ zPS) (hF : zWF E w) : wSh w (eZ E + o) = k := hF.2.2.1 (o, k) h
theorem wf_r {E : zEv} {w : zWd} (o j t : Nat) (h : (o, j, t) ∈ zPR) (hF : zWF E w) : wR w (eZ E + o) j = some (eZ E + t) := hF.2.2.2.1 (o, j, t) h
theorem wf_S {E : zEv} {w : zWd} {S : Nat} (hS : IsSt (eZ E) S) (hF : zWF E w) : zWS w S := hF.2.2.2.2.1 S hS
theorem wf_St {E : zEv} {w : zWd} {S : Nat} (hS : IsSt (eZ E) S) (hF : zWF E w) : wSh w S = (3, 0) := (wf_S hS hF).1
theorem wf_Sr {E : zEv} {w : zWd} {S : Nat} (j : Nat) (hj : j < 6) (hS : IsSt (eZ E) S) (hF : zWF E w) : wSh w S = (3, 0) ∧ wR w S j = some (S + 1 + j) := ⟨(wf_S hS hF).1, (wf_S hS hF).2.1 j hj⟩
theorem wf_SL {E : zEv} {w : zWd} {S : Nat} (hS : IsSt (eZ E) S) (hF : zWF E w) : wSh w (aSL S) = (55, 12) := (wf_S hS hF).2.2.2.2.1
theorem wf_SF {E : zEv} {w : zWd} {S : Nat} (hS : IsSt (eZ E) S) (hF : zWF E w) : wSh w (aSF S) = (51, 10) := (wf_S hS hF).2.2.2.2.2.1
theorem wf_SV {E : zEv} {w : zWd} {S : Nat} (hS : IsSt (eZ E) S) (hF : zWF E w) : wSh w (aSV S) = (51, 4) := (wf_S hS hF).2.2.2.2.2.2.1
theorem wf_SR {E : zEv} {w : zWd} {S : Nat} (hS : IsSt (eZ E) S) (hF : zWF E w) : wSh w (aSR S) = (51, 240) := (wf_S hS hF).2.2.2.2.2.2.2.1
theorem wf_Se {E : zEv} {w : zWd} {S k : Nat} (hS : IsSt (eZ E) S) (hk : k < 8) (hF : zWF E w) : wSh w (aSW S) = (56, 8) ∧ wR w (aSW S) k = some (aWo S k) := ⟨(wf_S hS hF).2.2.1, ((wf_S hS hF).2.2.2.2.2.2.2.2.1 k hk).1⟩
theorem wf_Te {E : zEv} {w : zWd} {S k : Nat} (hS : IsSt (eZ E) S) (hk : k < 8) (hF : zWF E w) : wSh w (aST S) = (57, 8) ∧ wR w (aST S) k = some (aTh S k) := ⟨(wf_S hS hF).2.2.2.1, ((wf_S hS hF).2.2.2.2.2.2.2.2.2 k hk).1⟩
theorem wf_Wo {E : zEv} {w : zWd} {a : Nat} (ha : IsWo (eZ E) a) (hF : zWF E w) : wSh w a = (4, 0) := by
  obtain ⟨S, k, hS, hk, rfl⟩ := ha
  exact ((wf_S hS hF).2.2.2.2.2.2.2.2.1 k hk).2.1
theorem wf_Wl {E : zEv} {w : zWd} {a : Nat} (ha : IsWo (eZ E) a) (hF : zWF E w) : wSh w a = (4, 0) ∧ wR w a 0 = some (aL a) := by
  obtain ⟨S, k, hS, hk, rfl⟩ := ha
  exact ⟨((wf_S hS hF).2.2.2.2.2.2.2.2.1 k hk).2.1, ((wf_S hS hF).2.2.2.2.2.2.2.2.1 k hk).2.2.1⟩
theorem wf_Wa {E : zEv} {w : zWd} {a : Nat} (ha : IsWo (eZ E) a) (hF : zWF E w) : wSh w (aL a) = (51, 4) := by
  obtain ⟨S, k, hS, hk, rfl⟩ := ha
  exact ((wf_S hS hF).2.2.2.2.2.2.2.2.1 k hk).2.2.2
theorem wf_Th {E : zEv} {w : zWd} {a : Nat} (ha : IsTh (eZ E) a) (hF : zWF E w) : wSh w a = (5, 0) := by
  obtain ⟨S, k, hS, hk, rfl⟩ := ha
  exact ((wf_S hS hF).2.2.2.2.2.2.2.2.2 k hk).2.1
theorem wf_Tl {E : zEv} {w : zWd} {a : Nat} (ha : IsTh (eZ E) a) (hF : zWF E w) : wSh w a = (5, 0) ∧ wR w a 0 = some (aL a) := by
  obtain ⟨S, k, hS, hk, rfl⟩ := ha
  exact ⟨((wf_S hS hF).2.2.2.2.2.2.2.2.2 k hk).2.1, ((wf_S hS hF).2.2.2.2.2.2.2.2.2 k hk).2.2.1⟩
theorem wf_Ta {E : zEv} {w : zWd} {a : Nat} (ha : IsTh (eZ E) a) (hF : zWF E w) : wSh w (aL a) = (51, 4) := by
  obtain ⟨S, k, hS, hk, rfl⟩ := ha
  exact ((wf_S hS hF).2.2.2.2.2.2.2.2.2 k hk).2.2.2
theorem wf_Ae {E : zEv} {w : zWd} {k : Nat} (hk : k < 12) (hF : zWF E w) : wSh w (aActs (eZ E)) = (58, 12) ∧ wR w (aActs (eZ E)) k = some (aAct (eZ E) k) := ⟨wf_s 163 (58, 12) (by decide) hF, hF.2.2.2.2.2.2.2.1 k hk⟩
theorem wf_Pe {E : zEv} {w : zWd} {k : Nat} (hk : k < 5) (hF : zWF E w) : wSh w (aSteps (eZ E)) = (58, 5) ∧ wR w (aSteps (eZ E)) k = some (aStp (eZ E) k) := ⟨wf_s 164 (58, 5) (by decide) hF, hF.2.2.2.2.2.2.2.2.1 k hk⟩
theorem wf_We {E : zEv} {w : zWd} {k : Nat} (hk : k < 7) (hF : zWF E w) : wSh w (aWords (eZ E)) = (54, 7) ∧ wR w (aWords (eZ E)) k = some (eS E k) := ⟨wf_s 3 (54, 7) (by decide) hF, hF.2.2.2.2.2.1 k hk⟩
theorem wf_Ge {E : zEv} {w : zWd} {k : Nat} (hk : k < 3) (hF : zWF E w) : wSh w (aTags (eZ E)) = (54, 3) ∧ wR w (aTags (eZ E)) k = some (eS E (7 + k)) := ⟨wf_s 4 (54, 3) (by decide) hF, hF.2.2.2.2.2.2.1 k hk⟩
theorem wf_low {z : Nat} : (∀ q ∈ zPS, z + q.1 < z + zPM) ∧ (∀ q ∈ zPR, z + q.1 < z + zPM) := by
  constructor
  · intro q hq
    have : ∀ q ∈ zPS, q.1 < zPM := by decide
    have := this q hq
    omega
  · intro q hq
    have : ∀ q ∈ zPR, q.1 < zPM := by decide
    have := this q hq
    omega
/-- what lies below the lasting cells' end alone matters -/
theorem zWF.cong {E : zEv} {w w' : zWd} (h : zWF E w) (hn : wNx w ≤ wNx w') (hz : ∀ a, wNx w' ≤ a → (wSh w' a).1 = 0) (hs : ∀ a, a < eZ E + zPM → wSh w' a = wSh w a) (hr : ∀ a, a < eZ E + zPM → wR w' a = wR w a) (hk : ∀ y, wSh w y = (13, 0) ∨ wSh w y = (14, 0) ∨ wSh w y = (15, 0) → wSh w' y = wSh w y) : zWF E w' := by
  obtain ⟨h1, h2, h3, h4, h5, h6, h7, h8, h9, h10, h11⟩ := h
  have ln : ∀ a, a < eZ E + zPM → zLn w a → zLn w' a := by
    intro a ha hl i hi y hy
    rw [hr a ha] at hy
    have := hl i hi y hy
    rw [hk y this]
    exact this
  have pm : zPM = 848 := rfl
  refine ⟨Nat.le_trans h1 hn, hz, fun q hq => by rw [hs _ (wf_low.1 q hq)]; exact h3 q hq, fun q hq => by rw [hr _ (wf_low.2 q hq)]; exact h4 q hq, fun S hS => ?_, fun k hk => by rw [hr _ (by omega)]; exact h6 k hk, fun k hk => by rw [hr _ (by omega)]; exact h7 k hk, fun k hk => by rw [hr _ (by omega)]; exact h8 k hk, fun k hk => by rw [hr _ (by omega)]; exact h9 k hk, ln _ (by omega) h10, fun S hS => ln _ (by have := hS.lt; omega) (h11 S hS)⟩
  have hlt := hS.lt
  obtain ⟨a1, a2, a3, a4, a5, a6, a7, a8, a9, a10⟩ := h5 S hS
  refine ⟨by rw [hs _ (by omega)]; exact a1, fun j hj => by rw [hr _ (by omega)]; exact a2 j hj, by rw [hs _ (by omega)]; exact a3, by rw [hs _ (by omega)]; exact a4, by rw [hs _ (by omega)]; exact a5, by rw [hs _ (by omega)]; exact a6, by rw [hs _ (by omega)]; exact a7, by rw [hs _ (by omega)]; exact a8, fun k hk => ?_, fun k hk => ?_⟩
  · obtain ⟨b1, b2, b3, b4⟩ := a9 k hk
    have e1 : aWo S k < eZ E + zPM := by unfold aWo; omega
    have e2 : aWo S k + 1 < eZ E + zPM := by unfold aWo; omega
    exact ⟨by rw [hr _ (by omega)]; exact b1, by rw [hs _ e1]; exact b2, by rw [hr _ e1]; exact b3, by rw [hs _ e2]; exact b4⟩
  · obtain ⟨b1, b2, b3, b4⟩ := a10 k hk
    have e1 : aTh S k < eZ E + zPM := by unfold aTh; omega
    have e2 : aTh S k + 1 < eZ E + zPM := by unfold aTh; omega
    exact ⟨by rw [hr _ (by omega)]; exact b1, by rw [hs _ e1]; exact b2, by rw [hr _ e1]; exact b3, by rw [hs _ e2]; exact b4⟩
theorem wf_new {E : zEv} {w : zWd} (k : Nat × Nat) (n : Nat) (h : zWF E w) : zWF E (newW w k n) := by
  refine h.cong (Nat.le_succ _) (fun a ha => ?_) (fun a ha => ?_) (fun a ha => ?_) (fun y hy => ?_)
  · rw [wNx_new] at ha
    rw [wSh_new, if_neg (by omega)]
    exact h.2.1 a (by omega)
  · rw [wSh_new, if_neg (by have := h.1; omega)]
  · rw [wR_new, if_neg (by have := h.1; omega)]
  · rw [wSh_new, if_neg]
    intro e
    have := h.2.1 y (by omega)
    rcases hy with hy | hy | hy <;> rw [hy] at this <;> simp at this
/-- a store of references into a cell made later -/
theorem wf_put {E : zEv} {w : zWd} {a : Nat} (ha : eZ E + zPM ≤ a) (f : Nat → Option Nat) (h : zWF E w) : zWF E (putR w a f) := by
  refine h.cong (Nat.le_refl _) h.2.1 (fun b hb => rfl) (fun b hb => ?_) (fun y hy => rfl)
  rw [wR_ne w f (by omega)]
theorem ln_put {w : zWd} {a b : Nat} {f : Nat → Option Nat} (h : zLn w b) (hf : b = a → ∀ i, i < 12 → ∀ y, f i = some y → wSh w y = (13, 0) ∨ wSh w y = (14, 0) ∨ wSh w y = (15, 0)) : zLn (putR w a f) b := by
  intro i hi y hy
  by_cases e : b = a
  · subst e
    rw [wR_same] at hy
    exact hf rfl i hi y hy
  · rw [wR_ne w f e] at hy
    exact h i hi y hy
/-- a store of a row of lines -/
theorem wf_putL {E : zEv} {w : zWd} {a : Nat} (ha : a = eZ E + 5 ∨ ∃ S, IsSt (eZ E) S ∧ a = S + 3) (f : Nat → Option Nat) (hf : ∀ i, i < 12 → ∀ y, f i = some y → wSh w y = (13, 0) ∨ wSh w y = (14, 0) ∨ wSh w y = (15, 0)) (h : zWF E w) : zWF E (putR w a f) := by
  obtain ⟨h1, h2, h3, h4, h5, h6, h7, h8, h9, h10, h11⟩ := h
  have hA : ∀ b, wSh w b ≠ (55, 12) → wR (putR w a f) b = wR w b := by
    intro b hb
    refine wR_ne w f (fun e => hb ?_)
    subst e
    rcases ha with e | ⟨S, hS, e⟩
    · rw [e]; exact h3 (5, (55, 12)) (by decide)
    · rw [e]; exact (h5 S hS).2.2.2.2.1
  have sh : ∀ o k, (o, k) ∈ zPS → k ≠ (55, 12) → wR (putR w a f) (eZ E + o) = wR w (eZ E + o) := fun o k hm hk => hA _ (by rw [h3 (o, k) hm]; exact hk)
  refine ⟨h1, h2, h3, fun q hq => ?_, fun S hS => ?_, fun k hk => by rw [sh 3 (54, 7) (by decide) (by decide)]; exact h6 k hk, fun k hk => by rw [sh 4 (54, 3) (by decide) (by decide)]; exact h7 k hk, fun k hk => by rw [sh 163 (58, 12) (by decide) (by decide)]; exact h8 k hk, fun k hk => by rw [sh 164 (58, 5) (by decide) (by decide)]; exact h9 k hk, ln_put h10 (fun _ => hf), fun S hS => ln_put (h11 S hS) (fun _ => hf)⟩
  · have : ∀ q ∈ zPR, (q.1, (1, 0)) ∈ zPS ∨ (q.1, (2, 0)) ∈ zPS ∨ (q.1, (7, 0)) ∈ zPS := by decide
    rcases this q hq with g | g | g
    · rw [sh _ _ g (by decide)]; exact h4 q hq
    · rw [sh _ _ g (by decide)]; exact h4 q hq
    · rw [sh _ _ g (by decide)]; exact h4 q hq
  · obtain ⟨a1, a2, a3, a4, a5, a6, a7, a8, a9, a10⟩ := h5 S hS
    refine ⟨a1, fun j hj => by rw [hA _ (by rw [a1]; decide)]; exact a2 j hj, a3, a4, a5, a6, a7, a8, fun k hk => ?_, fun k hk => ?_⟩
    · obtain ⟨b1, b2, b3, b4⟩ := a9 k hk
      exact ⟨by rw [hA _ (by rw [a3]; decide)]; exact b1, b2, by rw [hA _ (by rw [b2]; decide)]; exact b3, b4⟩
    · obtain ⟨b1, b2, b3, b4⟩ := a10 k hk
      exact ⟨by rw [hA _ (by rw [a4]; decide)]; exact b1, b2, by rw [hA _ (by rw [b2]; decide)]; exact b3, b4⟩
theorem asg_lines {w : zWd} {y : Nat} (h : wSh w y = (13, 0) ∨ wSh w y = (14, 0) ∨ wSh w y = (15, 0)) : ∃ kk, zAsg kk 4 ∧ wSh w y = (kk + 1, 0) := by
  rcases h with h | h | h
  · exact ⟨12, ⟨RX14, TX14, 2, RX13, rfl, by decide, rfl, Or.inr q2113⟩, h⟩
  · exact ⟨13, ⟨RX15, TX15, 2, RX13, rfl, by decide, rfl, Or.inr q2114⟩, h⟩
  · exact ⟨14, ⟨RX16, TX16, 1, RX13, rfl, by decide, rfl, Or.inr q2115⟩, h⟩
