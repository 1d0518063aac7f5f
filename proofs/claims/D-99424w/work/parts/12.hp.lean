/-! the heap as the component's functions see it -/
set_option maxRecDepth 100000
def asR (v : Value) : Option Nat := match v with
  | .ref a => some a
  | _ => none
def asI (v : Value) : Option Int32 := match v with
  | .int a => some a
  | _ => none
def nlV (v : Value) : Option Bool := match v with
  | .null => some true
  | .ref _ => some false
  | _ => none
def gV (σ : vv_S) (a ci k : Nat) : Option Value := match σ.1 a with
  | some (_, .inr (c, fs)) => if c = ci then fs[k]? else none
  | _ => none
def gI (σ : vv_S) (a ci k : Nat) : Option Int32 := (gV σ a ci k).bind asI
def gR (σ : vv_S) (a ci k : Nat) : Option Nat := (gV σ a ci k).bind asR
def pF (σ : vv_S) (a ci k : Nat) (v : Value) : Option vv_S := match σ.1 a with
  | some (true, .inr (c, fs)) => if c = ci ∧ k < fs.length then some (vv_up σ.1 a (true, .inr (ci, fs.set k v)), σ.2) else none
  | _ => none
def aLn (σ : vv_S) (a : Nat) : Option Int32 := match σ.1 a with
  | some (_, .inl x) => some (nI x.2.1)
  | _ => none
def aI (σ : vv_S) (ty : FieldType) (a : Nat) (i : Int32) : Option Int32 := match σ.1 a with
  | some (_, .inl (t, n, .inl f)) => if t = ty then rdI n f i else none
  | _ => none
def aQ (σ : vv_S) (a : Nat) (i : Int32) : Option Nat := match σ.1 a with
  | some (_, .inl (t, n, .inr (.inr (.inr (.inr f))))) => if t.isReference = true ∧ ¬ (i < 0 ∨ n ≤ i.toNatClampNeg) then f i.toNatClampNeg else none
  | _ => none
def sI (σ : vv_S) (a : Nat) (i x : Int32) : Option vv_S := match σ.1 a with
  | some (true, .inl (t, n, .inl f)) => if t = .int ∧ ¬ (i < 0 ∨ n ≤ i.toNatClampNeg) then some (vv_up σ.1 a (true, .inl (.int, n, .inl (upd f i.toNatClampNeg x))), σ.2) else none
  | _ => none
def sB (σ : vv_S) (a : Nat) (i x : Int32) : Option vv_S := match σ.1 a with
  | some (true, .inl (t, n, .inl f)) => if t = .byte ∧ ¬ (i < 0 ∨ n ≤ i.toNatClampNeg) then some (vv_up σ.1 a (true, .inl (.byte, n, .inl (upd f i.toNatClampNeg (vp_nar .byte x)))), σ.2) else none
  | _ => none
def sL (σ : vv_S) (a : Nat) (i : Int32) (x : Int64) : Option vv_S := match σ.1 a with
  | some (true, .inl (t, n, .inr (.inl f))) => if t = .long ∧ ¬ (i < 0 ∨ n ≤ i.toNatClampNeg) then some (vv_up σ.1 a (true, .inl (.long, n, .inr (.inl (vp_updL f i.toNatClampNeg x)))), σ.2) else none
  | _ => none
/-- what may stand in an array of T -/
def anyE (T : String) (e : vv_E) : Bool := match e.2 with
  | .inl x => decide (T = "java/lang/Object") && decide (x.1 = .int)
  | .inr y => (decide (T = "java/lang/Object") && decide (y.1 < 15)) || (decide (T = "java/lang/String") && decide (y.1 = 14))
def anyK (σ : vv_S) (T : String) (v : Nat) : Bool := match σ.1 v with
  | some e => anyE T e
  | none => false
def sQ (σ : vv_S) (a : Nat) (i : Int32) (v : Nat) : Option vv_S := match σ.1 a with
  | some (true, .inl (.object T, n, .inr (.inr (.inr (.inr f))))) => if anyK σ T v = true ∧ ¬ (i < 0 ∨ n ≤ i.toNatClampNeg) then some (vv_up σ.1 a (true, .inl (.object T, n, .inr (.inr (.inr (.inr (va_up f i.toNatClampNeg (some v))))))), σ.2) else none
  | _ => none
def sN (σ : vv_S) (a : Nat) (i : Int32) : Option vv_S := match σ.1 a with
  | some (true, .inl (.object T, n, .inr (.inr (.inr (.inr f))))) => if ¬ (i < 0 ∨ n ≤ i.toNatClampNeg) then some (vv_up σ.1 a (true, .inl (.object T, n, .inr (.inr (.inr (.inr (va_up f i.toNatClampNeg none)))))), σ.2) else none
  | _ => none
def nwO (σ : vv_S) (ci : Nat) (fs : List Value) (N : Nat) : vv_S := (vv_up σ.1 σ.2.1 (true, .inr (ci, fs)), σ.2.1 + 1, σ.2.2 + N)
def nwA (σ : vv_S) (ty : FieldType) (n : Int32) : Option vv_S := if n < 0 ∨ 60000000 < n.toNatClampNeg then none else some (vv_up σ.1 σ.2.1 (true, .inl (ty, n.toNatClampNeg, .inl (fun _ => 0))), σ.2.1 + 1, σ.2.2 + n.toNatClampNeg)
def nwQ (σ : vv_S) (T : String) (n : Int32) : Option vv_S := if n < 0 ∨ 60000000 < n.toNatClampNeg then none else some (vv_up σ.1 σ.2.1 (true, .inl (.object T, n.toNatClampNeg, .inr (.inr (.inr (.inr (fun _ => none)))))), σ.2.1 + 1, σ.2.2 + n.toNatClampNeg)
def isO (σ : vv_S) (a ci : Nat) : Option Unit := match σ.1 a with
  | some (_, .inr (c, _)) => if c = ci then some () else none
  | _ => none
def isF (σ : vv_S) (a : Nat) : Option Unit := match σ.1 a with
  | some (_, .inr (c, _)) => if c = 7 ∨ c = 8 ∨ c = 9 ∨ c = 10 then some () else none
  | _ => none
def isA (σ : vv_S) (a : Nat) (ty : FieldType) : Option Unit := match σ.1 a with
  | some (_, .inl x) => if x.1 = ty then some () else none
  | _ => none
def cpB (σ : vv_S) (a0 : Nat) (sp : Int32) (a : Nat) (dp n : Int32) : Option vv_S := match σ.1 a0, σ.1 a with
  | some (_, .inl (t0, n0, .inl f)), some (true, .inl (t1, n1, .inl g)) => if t0 = .byte ∧ t1 = .byte ∧ ¬ sp < 0 ∧ ¬ dp < 0 ∧ ¬ n < 0 ∧ sp.toNatClampNeg + n.toNatClampNeg ≤ n0 ∧ dp.toNatClampNeg + n.toNatClampNeg ≤ n1 ∧ (List.range n.toNatClampNeg).all (fun i => fits .byte (.int (f (sp.toNatClampNeg + i)))) = true then some (vv_up σ.1 a (true, .inl (.byte, n1, .inl (va_cpy f g sp.toNatClampNeg dp.toNatClampNeg n.toNatClampNeg))), σ.2) else none
  | _, _ => none
def cpQ (σ : vv_S) (a0 : Nat) (sp : Int32) (a : Nat) (dp n : Int32) : Option vv_S := match σ.1 a0, σ.1 a with
  | some (_, .inl (.object T0, n0, .inr (.inr (.inr (.inr f))))), some (true, .inl (.object T1, n1, .inr (.inr (.inr (.inr g))))) => if ¬ sp < 0 ∧ ¬ dp < 0 ∧ ¬ n < 0 ∧ sp.toNatClampNeg + n.toNatClampNeg ≤ n0 ∧ dp.toNatClampNeg + n.toNatClampNeg ≤ n1 ∧ (List.range n.toNatClampNeg).all (fun i => match f (sp.toNatClampNeg + i) with | none => true | some y => anyK σ T1 y) = true then some (vv_up σ.1 a (true, .inl (.object T1, n1, .inr (.inr (.inr (.inr (va_cpy f g sp.toNatClampNeg dp.toNatClampNeg n.toNatClampNeg)))))), σ.2) else none
  | _, _ => none
/-! results of methods that may throw -/
abbrev hX (α : Type) : Type := α ⊕ ((String × Nat) × vv_S)
def xb {α β : Type} (q : hX α) (f : α → Option (hX β)) : Option (hX β) := match q with
  | .inl r => f r
  | .inr x => some (.inr x)
def xI (r : hX (Int32 × vv_S)) : vv_X := match r with
  | .inl v => (.inl (some (.int v.1)), v.2)
  | .inr x => (.inr x.1, x.2)
def xR (r : hX (Nat × vv_S)) : vv_X := match r with
  | .inl v => (.inl (some (.ref v.1)), v.2)
  | .inr x => (.inr x.1, x.2)
def xU (r : hX vv_S) : vv_X := match r with
  | .inl v => (.inl none, v)
  | .inr x => (.inr x.1, x.2)
def thr0 {α : Type} (σ : vv_S) (C : String) : hX α := .inr ((C, σ.2.1), (σ.1, σ.2.1 + 1, σ.2.2 + 6))
theorem asR_o {β : Type} {v : Value} {g : Nat → Option β} {r : β} (h : (asR v).bind g = some r) : ∃ a, v = .ref a ∧ g a = some r := by
  cases v <;> first | exact ⟨_, rfl, h⟩ | cases h
theorem nl_o {β : Type} {v : Value} {g : Bool → Option β} {r : β} (h : (nlV v).bind g = some r) : (v = .null ∧ g true = some r) ∨ ∃ a, v = .ref a ∧ g false = some r := by
  cases v <;> first | exact Or.inl ⟨rfl, h⟩ | exact Or.inr ⟨_, rfl, h⟩ | cases h
theorem gV_s {σ : vv_S} {a ci k : Nat} {v : Value} (h : gV σ a ci k = some v) : ∃ f fs, σ.1 a = some (f, .inr (ci, fs)) ∧ fs[k]? = some v := by
  unfold gV at h
  split at h
  · rename_i f c fs he
    split at h
    · rename_i hc
      subst hc
      exact ⟨f, fs, he, h⟩
    · cases h
  · cases h
theorem gV_o {β : Type} {σ : vv_S} {a ci k : Nat} {g : Value → Option β} {r : β} (h : (gV σ a ci k).bind g = some r) : ∃ v f fs, σ.1 a = some (f, .inr (ci, fs)) ∧ fs[k]? = some v ∧ g v = some r := by
  obtain ⟨v, h1, h2⟩ := bd_o h
  obtain ⟨f, fs, h3, h4⟩ := gV_s h1
  exact ⟨v, f, fs, h3, h4, h2⟩
theorem gI_o {β : Type} {σ : vv_S} {a ci k : Nat} {g : Int32 → Option β} {r : β} (h : (gI σ a ci k).bind g = some r) : ∃ v f fs, σ.1 a = some (f, .inr (ci, fs)) ∧ fs[k]? = some (.int v) ∧ g v = some r := by
  obtain ⟨v, h1, h2⟩ := bd_o h
  obtain ⟨z, f, fs, h3, h4, h5⟩ := gV_o h1
  cases z <;> first | (cases h5; exact ⟨_, f, fs, h3, h4, h2⟩) | cases h5
theorem gR_o {β : Type} {σ : vv_S} {a ci k : Nat} {g : Nat → Option β} {r : β} (h : (gR σ a ci k).bind g = some r) : ∃ v f fs, σ.1 a = some (f, .inr (ci, fs)) ∧ fs[k]? = some (.ref v) ∧ g v = some r := by
  obtain ⟨v, h1, h2⟩ := bd_o h
  obtain ⟨z, f, fs, h3, h4, h5⟩ := gV_o h1
  cases z <;> first | (cases h5; exact ⟨_, f, fs, h3, h4, h2⟩) | cases h5
theorem pF_o {β : Type} {σ : vv_S} {a ci k : Nat} {v : Value} {g : vv_S → Option β} {r : β} (h : (pF σ a ci k v).bind g = some r) : ∃ σ1 fs, σ.1 a = some (true, .inr (ci, fs)) ∧ k < fs.length ∧ σ1 = (vv_up σ.1 a (true, .inr (ci, fs.set k v)), σ.2) ∧ g σ1 = some r := by
  obtain ⟨s1, h1, h2⟩ := bd_o h
  unfold pF at h1
  split at h1
  · rename_i c fs he
    split at h1
    · rename_i hc
      obtain ⟨rfl, hk⟩ := hc
      cases h1
      exact ⟨_, fs, he, hk, rfl, h2⟩
    · cases h1
  · cases h1
theorem aL_o {β : Type} {σ : vv_S} {a : Nat} {g : Int32 → Option β} {r : β} (h : (aLn σ a).bind g = some r) : ∃ v f x, σ.1 a = some (f, .inl x) ∧ Int32.ofNat x.2.1 = v ∧ g v = some r := by
  obtain ⟨v, h1, h2⟩ := bd_o h
  unfold aLn at h1
  split at h1
  · rename_i f x he
    cases h1
    exact ⟨_, f, x, he, rfl, h2⟩
  · cases h1
theorem aI_o {β : Type} {σ : vv_S} {ty : FieldType} {a : Nat} {i : Int32} {g : Int32 → Option β} {r : β} (h : (aI σ ty a i).bind g = some r) : ∃ v f n q, σ.1 a = some (f, .inl (ty, n, .inl q)) ∧ vp_in i n ∧ q i.toNatClampNeg = v ∧ g v = some r := by
  obtain ⟨v, h1, h2⟩ := bd_o h
  unfold aI at h1
  split at h1
  · rename_i f t n q he
    split at h1
    · rename_i ht
      subst ht
      unfold rdI at h1
      split at h1
      · cases h1
      · rename_i hi
        cases h1
        exact ⟨_, f, n, q, he, hi, rfl, h2⟩
    · cases h1
  · cases h1
theorem aQ_o {β : Type} {σ : vv_S} {a : Nat} {i : Int32} {g : Nat → Option β} {r : β} (h : (aQ σ a i).bind g = some r) : ∃ v f t n q, t.isReference = true ∧ σ.1 a = some (f, .inl (t, n, .inr (.inr (.inr (.inr q))))) ∧ vp_in i n ∧ q i.toNatClampNeg = some v ∧ g v = some r := by
  obtain ⟨v, h1, h2⟩ := bd_o h
  unfold aQ at h1
  split at h1
  · rename_i f t n q he
    split at h1
    · rename_i hi
      exact ⟨v, f, t, n, q, hi.1, he, hi.2, h1, h2⟩
    · cases h1
  · cases h1
theorem sI_o {β : Type} {σ : vv_S} {a : Nat} {i : Int32} {x : Int32} {g : vv_S → Option β} {r : β} (h : (sI σ a i x).bind g = some r) : ∃ σ1 n q, σ.1 a = some (true, .inl (.int, n, .inl q)) ∧ vp_in i n ∧ σ1 = (vv_up σ.1 a (true, .inl (.int, n, .inl (upd q i.toNatClampNeg x))), σ.2) ∧ g σ1 = some r := by
  obtain ⟨s1, h1, h2⟩ := bd_o h
  unfold sI at h1
  split at h1
  · rename_i t n q he
    split at h1
    · rename_i hi
      obtain ⟨rfl, hi⟩ := hi
      cases h1
      exact ⟨_, n, q, he, hi, rfl, h2⟩
    · cases h1
  · cases h1
theorem sB_o {β : Type} {σ : vv_S} {a : Nat} {i : Int32} {x : Int32} {g : vv_S → Option β} {r : β} (h : (sB σ a i x).bind g = some r) : ∃ σ1 n q, σ.1 a = some (true, .inl (.byte, n, .inl q)) ∧ vp_in i n ∧ σ1 = (vv_up σ.1 a (true, .inl (.byte, n, .inl (upd q i.toNatClampNeg (vp_nar .byte x)))), σ.2) ∧ g σ1 = some r := by
  obtain ⟨s1, h1, h2⟩ := bd_o h
  unfold sB at h1
  split at h1
  · rename_i t n q he
    split at h1
    · rename_i hi
      obtain ⟨rfl, hi⟩ := hi
      cases h1
      exact ⟨_, n, q, he, hi, rfl, h2⟩
    · cases h1
  · cases h1
theorem sL_o {β : Type} {σ : vv_S} {a : Nat} {i : Int32} {x : Int64} {g : vv_S → Option β} {r : β} (h : (sL σ a i x).bind g = some r) : ∃ σ1 n q, σ.1 a = some (true, .inl (.long, n, .inr (.inl q))) ∧ vp_in i n ∧ σ1 = (vv_up σ.1 a (true, .inl (.long, n, .inr (.inl (vp_updL q i.toNatClampNeg x)))), σ.2) ∧ g σ1 = some r := by
  obtain ⟨s1, h1, h2⟩ := bd_o h
  unfold sL at h1
  split at h1
  · rename_i t n q he
    split at h1
    · rename_i hi
      obtain ⟨rfl, hi⟩ := hi
      cases h1
      exact ⟨_, n, q, he, hi, rfl, h2⟩
    · cases h1
  · cases h1
theorem sQ_o {β : Type} {σ : vv_S} {a v : Nat} {i : Int32} {g : vv_S → Option β} {r : β} (h : (sQ σ a i v).bind g = some r) : ∃ σ1 T n q ev, σ.1 a = some (true, .inl (.object T, n, .inr (.inr (.inr (.inr q))))) ∧ σ.1 v = some ev ∧ anyE T ev = true ∧ vp_in i n ∧ σ1 = (vv_up σ.1 a (true, .inl (.object T, n, .inr (.inr (.inr (.inr (va_up q i.toNatClampNeg (some v))))))), σ.2) ∧ g σ1 = some r := by
  obtain ⟨s1, h1, h2⟩ := bd_o h
  unfold sQ at h1
  split at h1
  · rename_i T n q he
    split at h1
    · rename_i hi
      cases h1
      unfold anyK at hi
      obtain ⟨ha, hi⟩ := hi
      split at ha
      · rename_i ev hev
        exact ⟨_, T, n, q, ev, he, hev, ha, hi, rfl, h2⟩
      · cases ha
    · cases h1
  · cases h1
theorem sN_o {β : Type} {σ : vv_S} {a : Nat} {i : Int32} {g : vv_S → Option β} {r : β} (h : (sN σ a i).bind g = some r) : ∃ σ1 T n q, σ.1 a = some (true, .inl (.object T, n, .inr (.inr (.inr (.inr q))))) ∧ vp_in i n ∧ σ1 = (vv_up σ.1 a (true, .inl (.object T, n, .inr (.inr (.inr (.inr (va_up q i.toNatClampNeg none)))))), σ.2) ∧ g σ1 = some r := by
  obtain ⟨s1, h1, h2⟩ := bd_o h
  unfold sN at h1
  split at h1
  · rename_i T n q he
    split at h1
    · rename_i hi
      cases h1
      exact ⟨_, T, n, q, he, hi, rfl, h2⟩
    · cases h1
  · cases h1
theorem nA_o {β : Type} {σ : vv_S} {ty : FieldType} {n : Int32} {g : vv_S → Option β} {r : β} (h : (nwA σ ty n).bind g = some r) : ∃ σ1, ¬ n < 0 ∧ n.toNatClampNeg ≤ 60000000 ∧ σ1 = (vv_up σ.1 σ.2.1 (true, .inl (ty, n.toNatClampNeg, .inl (fun _ => 0))), σ.2.1 + 1, σ.2.2 + n.toNatClampNeg) ∧ g σ1 = some r := by
  obtain ⟨s1, h1, h2⟩ := bd_o h
  unfold nwA at h1
  split at h1
  · cases h1
  · rename_i hc
    cases h1
    exact ⟨_, fun z => hc (Or.inl z), Nat.not_lt.mp fun z => hc (Or.inr z), rfl, h2⟩
theorem nQ_o {β : Type} {σ : vv_S} {T : String} {n : Int32} {g : vv_S → Option β} {r : β} (h : (nwQ σ T n).bind g = some r) : ∃ σ1, ¬ n < 0 ∧ n.toNatClampNeg ≤ 60000000 ∧ σ1 = (vv_up σ.1 σ.2.1 (true, .inl (.object T, n.toNatClampNeg, .inr (.inr (.inr (.inr (fun _ => none)))))), σ.2.1 + 1, σ.2.2 + n.toNatClampNeg) ∧ g σ1 = some r := by
  obtain ⟨s1, h1, h2⟩ := bd_o h
  unfold nwQ at h1
  split at h1
  · cases h1
  · rename_i hc
    cases h1
    exact ⟨_, fun z => hc (Or.inl z), Nat.not_lt.mp fun z => hc (Or.inr z), rfl, h2⟩
theorem isO_o {β : Type} {σ : vv_S} {a ci : Nat} {g : Unit → Option β} {r : β} (h : (isO σ a ci).bind g = some r) : ∃ f fs, σ.1 a = some (f, .inr (ci, fs)) ∧ g () = some r := by
  obtain ⟨s1, h1, h2⟩ := bd_o h
  unfold isO at h1
  split at h1
  · rename_i f c fs he
    split at h1
    · rename_i hc
      subst hc
      exact ⟨f, fs, he, h2⟩
    · cases h1
  · cases h1
theorem isF_o {β : Type} {σ : vv_S} {a : Nat} {g : Unit → Option β} {r : β} (h : (isF σ a).bind g = some r) : ∃ f ci fs, σ.1 a = some (f, .inr (ci, fs)) ∧ (ci = 7 ∨ ci = 8 ∨ ci = 9 ∨ ci = 10) ∧ g () = some r := by
  obtain ⟨s1, h1, h2⟩ := bd_o h
  unfold isF at h1
  split at h1
  · rename_i f c fs he
    split at h1
    · rename_i hc
      exact ⟨f, c, fs, he, hc, h2⟩
    · cases h1
  · cases h1
theorem isA_o {β : Type} {σ : vv_S} {a : Nat} {ty : FieldType} {g : Unit → Option β} {r : β} (h : (isA σ a ty).bind g = some r) : ∃ f x, σ.1 a = some (f, .inl x) ∧ x.1 = ty ∧ g () = some r := by
  obtain ⟨s1, h1, h2⟩ := bd_o h
  unfold isA at h1
  split at h1
  · rename_i f x he
    split at h1
    · rename_i hc
      exact ⟨f, x, he, hc, h2⟩
    · cases h1
  · cases h1
theorem cpB_o {β : Type} {σ : vv_S} {a0 a : Nat} {sp dp n : Int32} {g9 : vv_S → Option β} {r : β} (h : (cpB σ a0 sp a dp n).bind g9 = some r) : ∃ σ1 b0 n0 n1 f g, σ.1 a0 = some (b0, .inl (.byte, n0, .inl f)) ∧ σ.1 a = some (true, .inl (.byte, n1, .inl g)) ∧ ¬ sp < 0 ∧ ¬ dp < 0 ∧ ¬ n < 0 ∧ sp.toNatClampNeg + n.toNatClampNeg ≤ n0 ∧ dp.toNatClampNeg + n.toNatClampNeg ≤ n1 ∧ (∀ i, i < n.toNatClampNeg → fits .byte (.int (f (sp.toNatClampNeg + i))) = true) ∧ σ1 = (vv_up σ.1 a (true, .inl (.byte, n1, .inl (va_cpy f g sp.toNatClampNeg dp.toNatClampNeg n.toNatClampNeg))), σ.2) ∧ g9 σ1 = some r := by
  obtain ⟨s1, h1, h2⟩ := bd_o h
  unfold cpB at h1
  split at h1
  · rename_i b0 t0 n0 f t1 n1 g e0 e1
    split at h1
    · rename_i hc
      obtain ⟨rfl, rfl, c1, c2, c3, c4, c5, c6⟩ := hc
      cases h1
      exact ⟨_, b0, n0, n1, f, g, e0, e1, c1, c2, c3, c4, c5, fun i hi => List.all_eq_true.mp c6 i (List.mem_range.mpr hi), rfl, h2⟩
    · cases h1
  · cases h1
theorem cpQ_o {β : Type} {σ : vv_S} {a0 a : Nat} {sp dp n : Int32} {g9 : vv_S → Option β} {r : β} (h : (cpQ σ a0 sp a dp n).bind g9 = some r) : ∃ σ1 b0 T0 T1 n0 n1 f g, σ.1 a0 = some (b0, .inl (.object T0, n0, .inr (.inr (.inr (.inr f))))) ∧ σ.1 a = some (true, .inl (.object T1, n1, .inr (.inr (.inr (.inr g))))) ∧ ¬ sp < 0 ∧ ¬ dp < 0 ∧ ¬ n < 0 ∧ sp.toNatClampNeg + n.toNatClampNeg ≤ n0 ∧ dp.toNatClampNeg + n.toNatClampNeg ≤ n1 ∧ (∀ i, i < n.toNatClampNeg → ∀ y, f (sp.toNatClampNeg + i) = some y → ∃ ev, σ.1 y = some ev ∧ anyE T1 ev = true) ∧ σ1 = (vv_up σ.1 a (true, .inl (.object T1, n1, .inr (.inr (.inr (.inr (va_cpy f g sp.toNatClampNeg dp.toNatClampNeg n.toNatClampNeg)))))), σ.2) ∧ g9 σ1 = some r := by
  obtain ⟨s1, h1, h2⟩ := bd_o h
  unfold cpQ at h1
  split at h1
  · rename_i b0 T0 n0 f T1 n1 g e0 e1
    split at h1
    · rename_i hc
      obtain ⟨c1, c2, c3, c4, c5, c6⟩ := hc
      cases h1
      refine ⟨_, b0, T0, T1, n0, n1, f, g, e0, e1, c1, c2, c3, c4, c5, fun i hi y hy => ?_, rfl, h2⟩
      have h9 := List.all_eq_true.mp c6 i (List.mem_range.mpr hi)
      rw [hy] at h9
      dsimp only at h9
      unfold anyK at h9
      split at h9
      · rename_i ev hev
        exact ⟨ev, hev, h9⟩
      · cases h9
    · cases h1
  · cases h1

theorem anyE_any {G : vv_G} {ad : Nat → Nat} {T : String} {e : vv_E} (hX : vv_gX G ad) (h : anyE T e = true) : vv_any G T e := by
  obtain ⟨b, e⟩ := e
  cases e with
  | inl x =>
    unfold anyE at h
    simp only [Bool.and_eq_true, decide_eq_true_eq] at h
    obtain ⟨rfl, h2⟩ := h
    exact vv_any.of (nm := "[I") (by show ("[" ++ x.1.toString) = "[I"; rw [h2]; decide) (fun U hK => hX.2.1 U hK _ q2247 rfl)
  | inr y =>
    obtain ⟨ci, fs⟩ := y
    unfold anyE at h
    simp only [Bool.or_eq_true, Bool.and_eq_true, decide_eq_true_eq] at h
    have hc := hX.1.1
    rcases h with ⟨rfl, h2⟩ | ⟨rfl, h2⟩
    · match ci, h2 with
      | 0, _ => exact vv_any.of (nm := "LuckCrates") ⟨_, _, by rw [hc]; rfl⟩ (fun U hK => hX.2.1 U hK _ q2228 rfl)
      | 1, _ => exact vv_any.of (nm := "LuckCrates$Province") ⟨_, _, by rw [hc]; rfl⟩ (fun U hK => hX.2.1 U hK _ q2229 rfl)
      | 2, _ => exact vv_any.of (nm := "LuckCrates$Coast") ⟨_, _, by rw [hc]; rfl⟩ (fun U hK => hX.2.1 U hK _ q2231 rfl)
      | 3, _ => exact vv_any.of (nm := "LuckCratesModel") ⟨_, _, by rw [hc]; rfl⟩ (fun U hK => hX.2.1 U hK _ q2232 rfl)
      | 4, _ => exact vv_any.of (nm := "LuckCrates$Reader") ⟨_, _, by rw [hc]; rfl⟩ (fun U hK => hX.2.1 U hK _ q2234 rfl)
      | 5, _ => exact vv_any.of (nm := "LuckCrates$Wrong") ⟨_, _, by rw [hc]; rfl⟩ (fun U hK => hX.2.1 U hK _ q2235 rfl)
      | 6, _ => exact vv_any.of (nm := "LuckCrates$Way") ⟨_, _, by rw [hc]; rfl⟩ (fun U hK => hX.2.1 U hK _ q2237 rfl)
      | 7, _ => exact vv_any.of (nm := "LuckCrates$Chain") ⟨_, _, by rw [hc]; rfl⟩ (fun U hK => hX.2.1 U hK _ q2238 rfl)
      | 8, _ => exact vv_any.of (nm := "LuckCrates$Number") ⟨_, _, by rw [hc]; rfl⟩ (fun U hK => hX.2.1 U hK _ q2239 rfl)
      | 9, _ => exact vv_any.of (nm := "LuckCrates$Value") ⟨_, _, by rw [hc]; rfl⟩ (fun U hK => hX.2.1 U hK _ q2240 rfl)
      | 10, _ => exact vv_any.of (nm := "LuckCrates$Not") ⟨_, _, by rw [hc]; rfl⟩ (fun U hK => hX.2.1 U hK _ q2242 rfl)
      | 11, _ => exact vv_any.of (nm := "java/util/ArrayList") ⟨_, _, by rw [hc]; rfl⟩ (fun U hK => hX.2.1 U hK _ q2230 rfl)
      | 12, _ => exact vv_any.of (nm := "java/lang/Integer") ⟨_, _, by rw [hc]; rfl⟩ (fun U hK => hX.2.1 U hK _ q2236 rfl)
      | 13, _ => exact vv_any.of (nm := "java/lang/StringBuilder") ⟨_, _, by rw [hc]; rfl⟩ (fun U hK => hX.2.1 U hK _ q2241 rfl)
      | 14, _ => exact vv_any.of (nm := "java/lang/String") ⟨_, _, by rw [hc]; rfl⟩ (fun U hK => hX.2.1 U hK _ q2227 rfl)
      | n + 15, h2 => exact absurd h2 (by omega)
    · subst h2
      exact vv_any.self (nm := "java/lang/String") ⟨_, _, by rw [hc]; rfl⟩
/-- Form's classes -/
theorem isF_cast {G : vv_G} {ad : Nat → Nat} {ci : Nat} (hX : vv_gX G ad) (h : ci = 7 ∨ ci = 8 ∨ ci = 9 ∨ ci = 10) : ∃ nm, (∀ f fs, vv_is G nm (f, .inr (ci, fs))) ∧ ∀ U, vv_K G U → va_Nw (.castable nm "LuckCrates$Form") U := by
  have hc := hX.1.1
  rcases h with rfl | rfl | rfl | rfl
  · exact ⟨"LuckCrates$Chain", fun _ _ => ⟨_, _, by rw [hc]; rfl⟩, fun U hK => hX.2.1 U hK _ q527 rfl⟩
  · exact ⟨"LuckCrates$Number", fun _ _ => ⟨_, _, by rw [hc]; rfl⟩, fun U hK => hX.2.1 U hK _ q546 rfl⟩
  · exact ⟨"LuckCrates$Value", fun _ _ => ⟨_, _, by rw [hc]; rfl⟩, fun U hK => hX.2.1 U hK _ q552 rfl⟩
  · exact ⟨"LuckCrates$Not", fun _ _ => ⟨_, _, by rw [hc]; rfl⟩, fun U hK => hX.2.1 U hK _ q538 rfl⟩
