/-! ===== V: a judgement over W with an abstract heap (address -> entry), exact size, exact outcome ===== -/
set_option maxRecDepth 100000
abbrev vv_E : Type := Bool × ((FieldType × vp_A) ⊕ (Nat × List Value))
abbrev vv_S : Type := (Nat → Option vv_E) × Nat × Nat
abbrev vv_R : Type := Option Value ⊕ (String × Nat)
abbrev vv_X : Type := vv_R × vv_S
abbrev vv_M : Type := MethodName × ByteArray × Nat × Option FieldType × List (Nat × Nat × Nat × Nat)
abbrev vv_G : Type := List vw_C × va_G × (FieldType → ClassId) × List FieldType × Nat × List (State → Prop) × List (State → Heap → Prop)
def vv_A (G : vv_G) : Nat → Prop := fun q => G.2.2.2.2.1 ≤ q
def vv_wf (G : vv_G) : Prop := (∀ P ∈ G.2.2.2.2.2.1, ∀ s U : State, s.WarmedH U.vm → P s → P U) ∧ (∀ P ∈ G.2.2.2.2.2.2, ∀ (s U : State) (H H' : Heap), s.vm.Alike U.vm → (∀ a : Nat, a < G.2.2.2.2.1 → H'[a]? = H[a]?) → P s H → P U H')
def vv_K (G : vv_G) (U : State) : Prop := vv_wf G ∧ va_K G.2.1 G.1 [] U ∧ (∀ ty ∈ G.2.2.2.1, ArrOfT U (G.2.2.1 ty) ty ∧ va_RA U (G.2.2.1 ty) ty) ∧ ∀ P ∈ G.2.2.2.2.2.1, P U
def vv_at (G : vv_G) (a : Nat) (e : vv_E) (H : Heap) : Prop := (e.1 = true → vv_A G a) ∧ match e.2 with
  | .inl x => x.1 ∈ G.2.2.2.1 ∧ H[a]? = some (vp_cell (G.2.2.1 x.1) x.2)
  | .inr o => va_at G.2.1 G.1 (a, .inr o) H
def vv_Rel (G : vv_G) (U : State) (σ : vv_S) (H : Heap) : Prop := H.size = σ.2.1 ∧ G.2.2.2.2.1 ≤ H.size ∧ (∀ a e, σ.1 a = some e → vv_at G a e H) ∧ ∀ P ∈ G.2.2.2.2.2.2, P U H
def vv_up (h : Nat → Option vv_E) (a : Nat) (e : vv_E) : Nat → Option vv_E := fun q => if q = a then some e else h q
theorem vv_K.moved {G : vv_G} {s U : State} (hW : s.WarmedH U.vm) (h : vv_K G s) : vv_K G U :=
  ⟨h.1, h.2.1.moved hW.alike, fun ty ht => ⟨arrOfT_moved hW.alike (h.2.2.1 ty ht).1, (h.2.2.1 ty ht).2.moved hW.alike⟩, fun P hP => h.1.1 P hP s U hW (h.2.2.2 P hP)⟩
theorem vv_Rel.moved {G : vv_G} {s U : State} {σ : vv_S} {H : Heap} (hw : vv_wf G) (hvm : s.vm.Alike U.vm) (h : vv_Rel G s σ H) : vv_Rel G U σ H :=
  ⟨h.1, h.2.1, h.2.2.1, fun P hP => hw.2 P hP s U H H hvm (fun _ _ => rfl) (h.2.2.2 P hP)⟩
theorem vv_at.kept {G : vv_G} {a : Nat} {e : vv_E} {H H1 : Heap} (h : vv_at G a e H) (hq : H1[a]? = H[a]?) : vv_at G a e H1 := by
  obtain ⟨b, e⟩ := e
  cases e with
  | inl x => exact ⟨h.1, h.2.1, hq.trans h.2.2⟩
  | inr o => exact ⟨h.1, va_at.kept (q := (a, .inr o)) h.2 hq⟩
theorem vv_at.lt {G : vv_G} {a : Nat} {e : vv_E} {H : Heap} (h : vv_at G a e H) : a < H.size := by
  obtain ⟨b, e⟩ := e
  cases e with
  | inl x => exact (Array.getElem?_eq_some_iff.mp h.2.2).1
  | inr o => exact va_at.lt (q := (a, .inr o)) h.2
theorem vv_Rel.put {G : vv_G} {s : State} {σ : vv_S} {a : Nat} {e : vv_E} {H H' : Heap} (hw : vv_wf G) (h : vv_Rel G s σ H) (he : vv_at G a e H') (ha : vv_A G a) (z : H'.size = H.size) (oq : ∀ q : Nat, q ≠ a → H'[q]? = H[q]?) : vv_Rel G s (vv_up σ.1 a e, σ.2) H' := by
  refine ⟨z.trans h.1, by rw [z]; exact h.2.1, fun b e' hb => ?_, fun P hP => hw.2 P hP s s H H' (Vm.Alike.refl _) (fun q hq => oq q (fun hh => ?_)) (h.2.2.2 P hP)⟩
  · by_cases hba : b = a
    · subst hba
      simp only [vv_up, if_pos] at hb
      cases hb
      exact he
    · simp only [vv_up, if_neg hba] at hb
      exact (h.2.2.1 b e' hb).kept (oq b hba)
  · subst hh
    exact absurd ha (Nat.not_le.mpr hq)
theorem vv_Rel.push {G : vv_G} {s : State} {σ : vv_S} {e : vv_E} {k : Nat} {H H' : Heap} (hw : vv_wf G) (h : vv_Rel G s σ H) (he : vv_at G σ.2.1 e H') (z : H'.size = H.size + 1) (oq : ∀ q : Nat, q < H.size → H'[q]? = H[q]?) : vv_Rel G s (vv_up σ.1 σ.2.1 e, σ.2.1 + 1, k) H' := by
  refine ⟨by rw [z, h.1], by rw [z]; exact Nat.le_succ_of_le h.2.1, fun b e' hb => ?_, fun P hP => hw.2 P hP s s H H' (Vm.Alike.refl _) (fun q hq => oq q (Nat.lt_of_lt_of_le hq h.2.1)) (h.2.2.2 P hP)⟩
  by_cases hba : b = σ.2.1
  · subst hba
    simp only [vv_up, if_pos] at hb
    cases hb
    exact he
  · simp only [vv_up, if_neg hba] at hb
    have h1 := h.2.2.1 b e' hb
    exact h1.kept (oq b h1.lt)
def vv_Qc (G : vv_G) (E : vv_X) : Array Value → State → Outcome → State → Prop := fun _ st o t => ∃ v, E.1 = .inl v ∧ o = .returned v ∧ vv_Rel G t E.2 t.heap ∧ va_F (vv_A G) st t
def vv_XC (G : vv_G) (E : vv_X) : String → Nat → State → State → Prop := fun C q st t => E.1 = .inr (C, q) ∧ vv_Rel G t E.2 t.heap ∧ va_F (vv_A G) st t
def vv_ws (M : vv_M) : List Cond := match M.2.2.2.2 with
  | [] => ws_ M.1 M.2.1 M.2.2.1 M.2.2.2.1
  | x :: hh => wsW_ M.1 M.2.1 M.2.2.1 M.2.2.2.1 (x :: hh)
def vv_rm (d : Nat) (σ : vv_S) (E : vv_X) : Room := { frames := d, cells := E.2.2.1 - σ.2.1, slots := E.2.2.2 - σ.2.2, locals := 64 * d }
def vv_Pc (G : vv_G) (av : List Value) (σ : vv_S) : Array Value → State → Prop := va_Pc av (fun U => vv_K G U ∧ vv_Rel G U σ U.heap)
def vv_Met (l : Launch) (G : vv_G) (M : vv_M) (d : Nat) (av : List Value) (σ : vv_S) (E : vv_X) : Prop :=
  (σ.2.1 ≤ E.2.2.1 ∧ σ.2.2 ≤ E.2.2.2) ∧ vx_Met l M.1 (vv_ws M) (vv_rm d σ E) (vv_Pc G av σ) (vv_Qc G E) (vv_XC G E) (E.2.2.1 - σ.2.1) (E.2.2.2 - σ.2.2) (vv_A G)
def vv_C (l : Launch) (G : vv_G) (M : vv_M) (d : Nat) (σ0 : vv_S) (E : vv_X) (p : Program) (R : Room) (s : State) (m : MethodId) (args : Array Value) (meth : Method) (c : Code) : Prop :=
  p.tables.exec = Jvm.exec ∧ c.code = M.2.1 ∧ meth.sig.returnType = M.2.2.2.1 ∧ meth.locks = false ∧ c.maxLocals = M.2.2.1 ∧ s.vm.findClass M.1.cls = some m.cls ∧ meth.name = M.1.name ∧ (∀ w ∈ lw_all, w.before args s = true) ∧ vv_K G s ∧ c.exceptionTable.toList = tableOf M.2.2.2.2 ∧ R = vv_rm d σ0 E ∧ G.2.2.2.2.1 ≤ s.heap.size
def vv_Q (G : vv_G) (σ0 : vv_S) (E : vv_X) (below : List Frame) (args : Array Value) (s : State) : State → Prop := vx_MQ below (vv_Qc G E) (vv_XC G E) args s (E.2.2.1 - σ0.2.1) (E.2.2.2 - σ0.2.2) (vv_A G)
def vv_V (l : Launch) (G : vv_G) (M : vv_M) (d pc : Nat) (lv : List (Nat × Value)) (st : List Value) (σ : vv_S) (E : vv_X) : Prop :=
  (σ.2.1 ≤ E.2.2.1 ∧ σ.2.2 ≤ E.2.2.2) ∧ ∀ (p : Program) (e : Env) (R : Room) (s : State) (m : MethodId) (args : Array Value) (below : List Frame) (meth : Method) (c : Code) (H : Heap) (locs : List Loc) (ls : Array Slot) (σ0 : vv_S),
    vv_C l G M d σ0 E p R s m args meth c → (σ0.2.1 ≤ σ.2.1 ∧ σ0.2.2 ≤ σ.2.2) → vv_Rel G s σ H → va_S (vv_A G) s.heap H locs → lv_has ls M.2.2.1 lv →
    W p l e R s m args below meth c H locs (σ.2.1 - σ0.2.1) (σ.2.2 - σ0.2.2) (vv_Q G σ0 E below args s) (F0 m pc ls st)
/-- q, of class C, is thrown at pc -/
def vv_T (l : Launch) (G : vv_G) (M : vv_M) (d pc : Nat) (C : String) (q : Nat) (lv : List (Nat × Value)) (σ : vv_S) (E : vv_X) : Prop :=
  (σ.2.1 ≤ E.2.2.1 ∧ σ.2.2 ≤ E.2.2.2) ∧ ∀ (p : Program) (e : Env) (R : Room) (s : State) (m : MethodId) (args : Array Value) (below : List Frame) (meth : Method) (c : Code) (H : Heap) (locs : List Loc) (ls : Array Slot) (σ0 : vv_S) (ce : Cell) (rest : List Value),
    vv_C l G M d σ0 E p R s m args meth c → (σ0.2.1 ≤ σ.2.1 ∧ σ0.2.2 ≤ σ.2.2) → vv_Rel G s σ H → va_S (vv_A G) s.heap H locs → lv_has ls M.2.2.1 lv → H[q]? = some ce → ce.vm = .none → s.vm.findClass C = some ce.cls →
    vx_W p l e R s m args below meth c H locs (σ.2.1 - σ0.2.1) (σ.2.2 - σ0.2.2) (vv_Q G σ0 E below args s) (F0 m pc ls rest) q
section VVR
variable {l : Launch} {G : vv_G} {M : vv_M} {d pc : Nat} {lv lv' : List (Nat × Value)} {rest : List Value} {σ : vv_S} {E : vv_X}
theorem vv_lift {pc' : Nat} {st st' : List Value} (f : ∀ {p : Program} {e : Env} {R : Room} {s : State} {m : MethodId} {args : Array Value} {below : List Frame} {meth : Method} {c : Code} {H : Heap} {locs : List Loc} {ls : Array Slot} {cells slots : Nat} {Q : State → Prop}, p.tables.exec = Jvm.exec → c.code = M.2.1 → s.vm.findClass M.1.cls = some m.cls → (∀ w ∈ lw_all, w.before args s = true) → vv_K G s → vv_Rel G s σ H → lv_has ls M.2.2.1 lv →
      (∀ ls', lv_has ls' M.2.2.1 lv' → W p l e R s m args below meth c H locs cells slots Q (F0 m pc' ls' st')) → W p l e R s m args below meth c H locs cells slots Q (F0 m pc ls st)) (k : vv_V l G M d pc' lv' st' σ E) : vv_V l G M d pc lv st σ E :=
  ⟨k.1, fun p e R s m args below meth c H locs ls σ0 C h0 hR hS hl => f C.1 C.2.1 C.2.2.2.2.2.1 C.2.2.2.2.2.2.2.1 C.2.2.2.2.2.2.2.2.1 hR hl (fun ls' hl' => k.2 p e R s m args below meth c H locs ls' σ0 C h0 hR hS hl')⟩
theorem vv_sub {st : List Value} (ks : List Nat) (hl : lv_pick lv ks = lv') (k : vv_V l G M d pc lv' st σ E) : vv_V l G M d pc lv st σ E :=
  vv_lift (fun _ _ _ _ _ _ h kk => kk _ (lv_sub h ks hl)) k
theorem vv_eq {st st' : List Value} {σ' : vv_S} {E' : vv_X} (h1 : st = st') (h2 : σ = σ') (k : vv_V l G M d pc lv st' σ' E) : vv_V l G M d pc lv st σ E := by rw [h1, h2]; exact k

theorem vv_iconst {n : Int} {v : Int32} (dg : decode M.2.1 pc = .ok (.iconst n, 1)) (hv : Int32.ofInt n = v) (k : vv_V l G M d (pc + 1) lv (.int v :: rest) σ E) : vv_V l G M d pc lv (rest) σ E := vv_lift (fun hx hb ho hts _ _ hl kk => lv_iconst hx hb dg hv (kk _ hl)) k
theorem vv_bipush {n : Int} {v : Int32} (dg : decode M.2.1 pc = .ok (.bipush n, 2)) (hv : (Int8.ofInt n).toInt32 = v) (k : vv_V l G M d (pc + 2) lv (.int v :: rest) σ E) : vv_V l G M d pc lv (rest) σ E := vv_lift (fun hx hb ho hts _ _ hl kk => lv_bipush hx hb dg hv (kk _ hl)) k
theorem vv_sipush {n : Int} {v : Int32} (dg : decode M.2.1 pc = .ok (.sipush n, 3)) (hv : (Int16.ofInt n).toInt32 = v) (k : vv_V l G M d (pc + 3) lv (.int v :: rest) σ E) : vv_V l G M d pc lv (rest) σ E := vv_lift (fun hx hb ho hts _ _ hl kk => lv_sipush hx hb dg hv (kk _ hl)) k
theorem vv_ldc {ix : Nat} {v : Int32} (dg : decode M.2.1 pc = .ok (.ldc ix, 2)) (hc : Jvm.Cond.constant M.1.cls ix v ∈ lw_all) (k : vv_V l G M d (pc + 2) lv (.int v :: rest) σ E) : vv_V l G M d pc lv (rest) σ E := vv_lift (fun hx hb ho hts _ _ hl kk => lv_ldc hx hb ho (hts _ hc) dg (kk _ hl)) k
theorem vv_ldcw {ix : Nat} {v : Int32} (dg : decode M.2.1 pc = .ok (.ldc_w ix, 3)) (hc : Jvm.Cond.constant M.1.cls ix v ∈ lw_all) (k : vv_V l G M d (pc + 3) lv (.int v :: rest) σ E) : vv_V l G M d pc lv (rest) σ E := vv_lift (fun hx hb ho hts _ _ hl kk => lv_ldcw hx hb ho (hts _ hc) dg (kk _ hl)) k
theorem vv_ldc2 {ix : Nat} {v : Int64} (dg : decode M.2.1 pc = .ok (.ldc2_w ix, 3)) (hc : Jvm.Cond.constantLong M.1.cls ix v ∈ lw_all) (k : vv_V l G M d (pc + 3) lv (.long v :: rest) σ E) : vv_V l G M d pc lv (rest) σ E := vv_lift (fun hx hb ho hts _ _ hl kk => lv_ldc2 hx hb ho (hts _ hc) dg (kk _ hl)) k
theorem vv_lconst {n : Fin 2} {v : Int64} (dg : decode M.2.1 pc = .ok (.lconst n, 1)) (hv : Int64.ofNat (n : Nat) = v) (k : vv_V l G M d (pc + 1) lv (.long v :: rest) σ E) : vv_V l G M d pc lv (rest) σ E := vv_lift (fun hx hb ho hts _ _ hl kk => lv_lconst hx hb dg hv (kk _ hl)) k
theorem vv_iload_n {k : Fin 4} {i : Nat} {x : Int32} (dg : decode M.2.1 pc = .ok (.iload_n k, 1)) (hi : (k : Nat) = i) (n : Nat) (hn : lv[n]? = some (i, .int x)) (k : vv_V l G M d (pc + 1) lv (.int x :: rest) σ E) : vv_V l G M d pc lv (rest) σ E := vv_lift (fun hx hb ho hts _ _ hl kk => lv_iload_n hx hb dg hi (lv_at hl n hn) (kk _ hl)) k
theorem vv_iload {i : Nat} {x : Int32} (dg : decode M.2.1 pc = .ok (.iload i, 2)) (n : Nat) (hn : lv[n]? = some (i, .int x)) (k : vv_V l G M d (pc + 2) lv (.int x :: rest) σ E) : vv_V l G M d pc lv (rest) σ E := vv_lift (fun hx hb ho hts _ _ hl kk => lv_iload hx hb dg (lv_at hl n hn) (kk _ hl)) k
theorem vv_lload_n {k : Fin 4} {i : Nat} {x : Int64} (dg : decode M.2.1 pc = .ok (.lload_n k, 1)) (hi : (k : Nat) = i) (n : Nat) (hn : lv[n]? = some (i, .long x)) (k : vv_V l G M d (pc + 1) lv (.long x :: rest) σ E) : vv_V l G M d pc lv (rest) σ E := vv_lift (fun hx hb ho hts _ _ hl kk => lv_lload_n hx hb dg hi (lv_at hl n hn) (kk _ hl)) k
theorem vv_lload {i : Nat} {x : Int64} (dg : decode M.2.1 pc = .ok (.lload i, 2)) (n : Nat) (hn : lv[n]? = some (i, .long x)) (k : vv_V l G M d (pc + 2) lv (.long x :: rest) σ E) : vv_V l G M d pc lv (rest) σ E := vv_lift (fun hx hb ho hts _ _ hl kk => lv_lload hx hb dg (lv_at hl n hn) (kk _ hl)) k
theorem vv_aload_n {k : Fin 4} {i : Nat} {x : Nat} (dg : decode M.2.1 pc = .ok (.aload_n k, 1)) (hi : (k : Nat) = i) (n : Nat) (hn : lv[n]? = some (i, .ref x)) (k : vv_V l G M d (pc + 1) lv (.ref x :: rest) σ E) : vv_V l G M d pc lv (rest) σ E := vv_lift (fun hx hb ho hts _ _ hl kk => lv_aload_n hx hb dg hi (lv_at hl n hn) (kk _ hl)) k
theorem vv_aload {i : Nat} {x : Nat} (dg : decode M.2.1 pc = .ok (.aload i, 2)) (n : Nat) (hn : lv[n]? = some (i, .ref x)) (k : vv_V l G M d (pc + 2) lv (.ref x :: rest) σ E) : vv_V l G M d pc lv (rest) σ E := vv_lift (fun hx hb ho hts _ _ hl kk => lv_aload hx hb dg (lv_at hl n hn) (kk _ hl)) k
theorem vv_aload_nN {k : Fin 4} {i : Nat} (dg : decode M.2.1 pc = .ok (.aload_n k, 1)) (hi : (k : Nat) = i) (n : Nat) (hn : lv[n]? = some (i, .null)) (k : vv_V l G M d (pc + 1) lv (.null :: rest) σ E) : vv_V l G M d pc lv (rest) σ E := vv_lift (fun hx hb ho hts _ _ hl kk => lv_aload_nN hx hb dg hi (lv_at hl n hn) (kk _ hl)) k
theorem vv_aloadN {i : Nat} (dg : decode M.2.1 pc = .ok (.aload i, 2)) (n : Nat) (hn : lv[n]? = some (i, .null)) (k : vv_V l G M d (pc + 2) lv (.null :: rest) σ E) : vv_V l G M d pc lv (rest) σ E := vv_lift (fun hx hb ho hts _ _ hl kk => lv_aloadN hx hb dg (lv_at hl n hn) (kk _ hl)) k
theorem vv_istore_n {k : Fin 4} {i : Nat} {x : Int32} (dg : decode M.2.1 pc = .ok (.istore_n k, 1)) (hi : (k : Nat) = i) (hn : i < M.2.2.1) (ks : List Nat) (hl9 : lv_pick ((i, Value.int x) :: lv.filter (fun q => !(q.1 == i) && !(q.1 + 1 == i && q.2.category == 2))) ks = lv') (k9 : vv_V l G M d (pc + 1) lv' rest σ E) : vv_V l G M d pc lv (Value.int x :: rest) σ E := vv_lift (fun hx hb _ _ _ _ hl kk => lv_istore_n hx hb dg hi hl hn rfl (fun ls' hl' => kk ls' (lv_sub hl' ks hl9))) k9
theorem vv_istore {i : Nat} {x : Int32} (dg : decode M.2.1 pc = .ok (.istore i, 2)) (hn : i < M.2.2.1) (ks : List Nat) (hl9 : lv_pick ((i, Value.int x) :: lv.filter (fun q => !(q.1 == i) && !(q.1 + 1 == i && q.2.category == 2))) ks = lv') (k9 : vv_V l G M d (pc + 2) lv' rest σ E) : vv_V l G M d pc lv (Value.int x :: rest) σ E := vv_lift (fun hx hb _ _ _ _ hl kk => lv_istore hx hb dg hl hn rfl (fun ls' hl' => kk ls' (lv_sub hl' ks hl9))) k9
theorem vv_lstore_n {k : Fin 4} {i : Nat} {x : Int64} (dg : decode M.2.1 pc = .ok (.lstore_n k, 1)) (hi : (k : Nat) = i) (hn : i + 1 < M.2.2.1) (ks : List Nat) (hl9 : lv_pick ((i, Value.long x) :: lv.filter (fun q => !(q.1 == i) && (!(q.1 == i + 1) && !(q.1 + 1 == i && q.2.category == 2)))) ks = lv') (k9 : vv_V l G M d (pc + 1) lv' rest σ E) : vv_V l G M d pc lv (Value.long x :: rest) σ E := vv_lift (fun hx hb _ _ _ _ hl kk => lv_lstore_n hx hb dg hi hl hn rfl (fun ls' hl' => kk ls' (lv_sub hl' ks hl9))) k9
theorem vv_lstore {i : Nat} {x : Int64} (dg : decode M.2.1 pc = .ok (.lstore i, 2)) (hn : i + 1 < M.2.2.1) (ks : List Nat) (hl9 : lv_pick ((i, Value.long x) :: lv.filter (fun q => !(q.1 == i) && (!(q.1 == i + 1) && !(q.1 + 1 == i && q.2.category == 2)))) ks = lv') (k9 : vv_V l G M d (pc + 2) lv' rest σ E) : vv_V l G M d pc lv (Value.long x :: rest) σ E := vv_lift (fun hx hb _ _ _ _ hl kk => lv_lstore hx hb dg hl hn rfl (fun ls' hl' => kk ls' (lv_sub hl' ks hl9))) k9
theorem vv_astore_n {k : Fin 4} {i : Nat} {x : Nat} (dg : decode M.2.1 pc = .ok (.astore_n k, 1)) (hi : (k : Nat) = i) (hn : i < M.2.2.1) (ks : List Nat) (hl9 : lv_pick ((i, Value.ref x) :: lv.filter (fun q => !(q.1 == i) && !(q.1 + 1 == i && q.2.category == 2))) ks = lv') (k9 : vv_V l G M d (pc + 1) lv' rest σ E) : vv_V l G M d pc lv (Value.ref x :: rest) σ E := vv_lift (fun hx hb _ _ _ _ hl kk => lv_astore_n hx hb dg hi hl hn rfl (fun ls' hl' => kk ls' (lv_sub hl' ks hl9))) k9
theorem vv_astore {i : Nat} {x : Nat} (dg : decode M.2.1 pc = .ok (.astore i, 2)) (hn : i < M.2.2.1) (ks : List Nat) (hl9 : lv_pick ((i, Value.ref x) :: lv.filter (fun q => !(q.1 == i) && !(q.1 + 1 == i && q.2.category == 2))) ks = lv') (k9 : vv_V l G M d (pc + 2) lv' rest σ E) : vv_V l G M d pc lv (Value.ref x :: rest) σ E := vv_lift (fun hx hb _ _ _ _ hl kk => lv_astore hx hb dg hl hn rfl (fun ls' hl' => kk ls' (lv_sub hl' ks hl9))) k9
theorem vv_astore_nN {k : Fin 4} {i : Nat} (dg : decode M.2.1 pc = .ok (.astore_n k, 1)) (hi : (k : Nat) = i) (hn : i < M.2.2.1) (ks : List Nat) (hl9 : lv_pick ((i, Value.null) :: lv.filter (fun q => !(q.1 == i) && !(q.1 + 1 == i && q.2.category == 2))) ks = lv') (k9 : vv_V l G M d (pc + 1) lv' rest σ E) : vv_V l G M d pc lv (Value.null :: rest) σ E := vv_lift (fun hx hb _ _ _ _ hl kk => lv_astore_nN hx hb dg hi hl hn rfl (fun ls' hl' => kk ls' (lv_sub hl' ks hl9))) k9
theorem vv_astoreN {i : Nat} (dg : decode M.2.1 pc = .ok (.astore i, 2)) (hn : i < M.2.2.1) (ks : List Nat) (hl9 : lv_pick ((i, Value.null) :: lv.filter (fun q => !(q.1 == i) && !(q.1 + 1 == i && q.2.category == 2))) ks = lv') (k9 : vv_V l G M d (pc + 2) lv' rest σ E) : vv_V l G M d pc lv (Value.null :: rest) σ E := vv_lift (fun hx hb _ _ _ _ hl kk => lv_astoreN hx hb dg hl hn rfl (fun ls' hl' => kk ls' (lv_sub hl' ks hl9))) k9
theorem vv_iinc {i : Nat} {n : Int} {x v : Int32} (dg : decode M.2.1 pc = .ok (.iinc i n, 3)) (k : Nat) (hk : lv[k]? = some (i, .int x)) (hv : x + Int32.ofInt n = v) (hn : i < M.2.2.1) (ks : List Nat) (hl9 : lv_pick ((i, Value.int v) :: lv.filter (fun q => !(q.1 == i) && !(q.1 + 1 == i && q.2.category == 2))) ks = lv') (k9 : vv_V l G M d (pc + 3) lv' rest σ E) : vv_V l G M d pc lv rest σ E := vv_lift (fun hx hb _ _ _ _ hl kk => lv_iinc hx hb dg hl hk hv hn rfl (fun ls' hl' => kk ls' (lv_sub hl' ks hl9))) k9
theorem vv_iadd {x y : Int32} (dg : decode M.2.1 pc = .ok (.iadd, 1))  (k : vv_V l G M d (pc + 1) lv (.int (x + y) :: rest) σ E) : vv_V l G M d pc lv (.int y :: .int x :: rest) σ E := vv_lift (fun hx hb ho hts _ _ hl kk => lv_iadd hx hb dg (kk _ hl)) k
theorem vv_isub {x y : Int32} (dg : decode M.2.1 pc = .ok (.isub, 1))  (k : vv_V l G M d (pc + 1) lv (.int (x - y) :: rest) σ E) : vv_V l G M d pc lv (.int y :: .int x :: rest) σ E := vv_lift (fun hx hb ho hts _ _ hl kk => lv_isub hx hb dg (kk _ hl)) k
theorem vv_imul {x y : Int32} (dg : decode M.2.1 pc = .ok (.imul, 1))  (k : vv_V l G M d (pc + 1) lv (.int (x * y) :: rest) σ E) : vv_V l G M d pc lv (.int y :: .int x :: rest) σ E := vv_lift (fun hx hb ho hts _ _ hl kk => lv_imul hx hb dg (kk _ hl)) k
theorem vv_iand {x y : Int32} (dg : decode M.2.1 pc = .ok (.iand, 1))  (k : vv_V l G M d (pc + 1) lv (.int (x &&& y) :: rest) σ E) : vv_V l G M d pc lv (.int y :: .int x :: rest) σ E := vv_lift (fun hx hb ho hts _ _ hl kk => lv_iand hx hb dg (kk _ hl)) k
theorem vv_ior {x y : Int32} (dg : decode M.2.1 pc = .ok (.ior, 1))  (k : vv_V l G M d (pc + 1) lv (.int (x ||| y) :: rest) σ E) : vv_V l G M d pc lv (.int y :: .int x :: rest) σ E := vv_lift (fun hx hb ho hts _ _ hl kk => lv_ior hx hb dg (kk _ hl)) k
theorem vv_ixor {x y : Int32} (dg : decode M.2.1 pc = .ok (.ixor, 1))  (k : vv_V l G M d (pc + 1) lv (.int (x ^^^ y) :: rest) σ E) : vv_V l G M d pc lv (.int y :: .int x :: rest) σ E := vv_lift (fun hx hb ho hts _ _ hl kk => lv_ixor hx hb dg (kk _ hl)) k
theorem vv_ishl {x y : Int32} (dg : decode M.2.1 pc = .ok (.ishl, 1))  (k : vv_V l G M d (pc + 1) lv (.int (x <<< (y &&& 31)) :: rest) σ E) : vv_V l G M d pc lv (.int y :: .int x :: rest) σ E := vv_lift (fun hx hb ho hts _ _ hl kk => lv_ishl hx hb dg (kk _ hl)) k
theorem vv_ishr {x y : Int32} (dg : decode M.2.1 pc = .ok (.ishr, 1))  (k : vv_V l G M d (pc + 1) lv (.int (x >>> (y &&& 31)) :: rest) σ E) : vv_V l G M d pc lv (.int y :: .int x :: rest) σ E := vv_lift (fun hx hb ho hts _ _ hl kk => lv_ishr hx hb dg (kk _ hl)) k
theorem vv_idiv {x y : Int32} (dg : decode M.2.1 pc = .ok (.idiv, 1)) (hne : ¬ y = 0) (k : vv_V l G M d (pc + 1) lv (.int (x / y) :: rest) σ E) : vv_V l G M d pc lv (.int y :: .int x :: rest) σ E := vv_lift (fun hx hb ho hts _ _ hl kk => lv_idiv hx hb dg hne (kk _ hl)) k
theorem vv_irem {x y : Int32} (dg : decode M.2.1 pc = .ok (.irem, 1)) (hne : ¬ y = 0) (k : vv_V l G M d (pc + 1) lv (.int (x - x / y * y) :: rest) σ E) : vv_V l G M d pc lv (.int y :: .int x :: rest) σ E := vv_lift (fun hx hb ho hts _ _ hl kk => lv_irem hx hb dg hne (kk _ hl)) k
theorem vv_ineg {x : Int32} (dg : decode M.2.1 pc = .ok (.ineg, 1))  (k : vv_V l G M d (pc + 1) lv (.int (-x) :: rest) σ E) : vv_V l G M d pc lv (.int x :: rest) σ E := vv_lift (fun hx hb ho hts _ _ hl kk => lv_ineg hx hb dg (kk _ hl)) k
theorem vv_iushr {x y : Int32} (dg : decode M.2.1 pc = .ok (.iushr, 1))  (k : vv_V l G M d (pc + 1) lv (.int (x.toUInt32 >>> (y.toUInt32 &&& Int32.toUInt32 31)).toInt32 :: rest) σ E) : vv_V l G M d pc lv (.int y :: .int x :: rest) σ E := vv_lift (fun hx hb ho hts _ _ hl kk => lv_iushr hx hb dg rfl (kk _ hl)) k
theorem vv_lsub {x y : Int64} (dg : decode M.2.1 pc = .ok (.lsub, 1))  (k : vv_V l G M d (pc + 1) lv (.long (x - y) :: rest) σ E) : vv_V l G M d pc lv (.long y :: .long x :: rest) σ E := vv_lift (fun hx hb ho hts _ _ hl kk => lv_lsub hx hb dg (kk _ hl)) k
theorem vv_lor {x y : Int64} (dg : decode M.2.1 pc = .ok (.lor, 1))  (k : vv_V l G M d (pc + 1) lv (.long (x ||| y) :: rest) σ E) : vv_V l G M d pc lv (.long y :: .long x :: rest) σ E := vv_lift (fun hx hb ho hts _ _ hl kk => lv_lor hx hb dg (kk _ hl)) k
theorem vv_lshl {x : Int64} {y : Int32} (dg : decode M.2.1 pc = .ok (.lshl, 1))  (k : vv_V l G M d (pc + 1) lv (.long (x <<< (y.toInt64 &&& 63)) :: rest) σ E) : vv_V l G M d pc lv (.int y :: .long x :: rest) σ E := vv_lift (fun hx hb ho hts _ _ hl kk => lv_lshl hx hb dg rfl (kk _ hl)) k
theorem vv_i2l {x : Int32} (dg : decode M.2.1 pc = .ok (.i2l, 1))  (k : vv_V l G M d (pc + 1) lv (.long x.toInt64 :: rest) σ E) : vv_V l G M d pc lv (.int x :: rest) σ E := vv_lift (fun hx hb ho hts _ _ hl kk => lv_i2l hx hb dg rfl (kk _ hl)) k
theorem vv_i2b {x : Int32} (dg : decode M.2.1 pc = .ok (.i2b, 1))  (k : vv_V l G M d (pc + 1) lv (.int x.toInt8.toInt32 :: rest) σ E) : vv_V l G M d pc lv (.int x :: rest) σ E := vv_lift (fun hx hb ho hts _ _ hl kk => lv_i2b hx hb dg rfl (kk _ hl)) k
theorem vv_i2c {x : Int32} (dg : decode M.2.1 pc = .ok (.i2c, 1))  (k : vv_V l G M d (pc + 1) lv (.int (x.toUInt32 % 65536).toInt32 :: rest) σ E) : vv_V l G M d pc lv (.int x :: rest) σ E := vv_lift (fun hx hb ho hts _ _ hl kk => lv_i2c hx hb dg rfl (kk _ hl)) k
theorem vv_dup {va : Value} (dg : decode M.2.1 pc = .ok (.dup, 1)) (hva : va.category = 1) (k : vv_V l G M d (pc + 1) lv (va :: va :: rest) σ E) : vv_V l G M d pc lv (va :: rest) σ E := vv_lift (fun hx hb ho hts _ _ hl kk => lv_dup hx hb dg hva (kk _ hl)) k
theorem vv_pop {va : Value} (dg : decode M.2.1 pc = .ok (.pop, 1)) (hva : va.category = 1) (k : vv_V l G M d (pc + 1) lv (rest) σ E) : vv_V l G M d pc lv (va :: rest) σ E := vv_lift (fun hx hb ho hts _ _ hl kk => lv_pop hx hb dg hva (kk _ hl)) k
theorem vv_dup_x1 {va vb : Value} (dg : decode M.2.1 pc = .ok (.dup_x1, 1)) (hva : va.category = 1) (hvb : vb.category = 1) (k : vv_V l G M d (pc + 1) lv (va :: vb :: va :: rest) σ E) : vv_V l G M d pc lv (va :: vb :: rest) σ E := vv_lift (fun hx hb ho hts _ _ hl kk => lv_dup_x1 hx hb dg hva hvb (kk _ hl)) k
theorem vv_dup2 {va vb : Value} (dg : decode M.2.1 pc = .ok (.dup2, 1)) (hva : va.category = 1) (hvb : vb.category = 1) (k : vv_V l G M d (pc + 1) lv (va :: vb :: va :: vb :: rest) σ E) : vv_V l G M d pc lv (va :: vb :: rest) σ E := vv_lift (fun hx hb ho hts _ _ hl kk => lv_dup2_11 hx hb dg hva hvb (kk _ hl)) k
theorem vv_null  (dg : decode M.2.1 pc = .ok (.aconst_null, 1))  (k : vv_V l G M d (pc + 1) lv (.null :: rest) σ E) : vv_V l G M d pc lv (rest) σ E := vv_lift (fun hx hb ho hts _ _ hl kk => lv_null hx hb dg (kk _ hl)) k
theorem vv_goto {off : Int} {tgt : Nat} (dg : decode M.2.1 pc = .ok (.goto off, 3)) (ht : (pc : Int) + off = (tgt : Int)) (k : vv_V l G M d tgt lv rest σ E) : vv_V l G M d pc lv rest σ E := vv_lift (fun hx hb _ _ _ _ hl kk => lv_goto hx hb dg ht (kk _ hl)) k
theorem vv_if_eq {x : Int32} {off : Int} {tgt : Nat} (dg : decode M.2.1 pc = .ok (.ifCond .eq off, 3)) (ht : (pc : Int) + off = (tgt : Int)) (kt : x = 0 → vv_V l G M d tgt lv rest σ E) (kf : ¬ x = 0 → vv_V l G M d (pc + 3) lv rest σ E) : vv_V l G M d pc lv (.int x :: rest) σ E := by
  by_cases h : x = 0
  · exact vv_lift (fun hx hb _ _ _ _ hl kk => lv_if_eq hx hb dg ht (fun _ => kk _ hl) (fun n => absurd h n)) (kt h)
  · exact vv_lift (fun hx hb _ _ _ _ hl kk => lv_if_eq hx hb dg ht (fun n => absurd n h) (fun _ => kk _ hl)) (kf h)
theorem vv_icmp_eq {x y : Int32} {off : Int} {tgt : Nat} (dg : decode M.2.1 pc = .ok (.if_icmp .eq off, 3)) (ht : (pc : Int) + off = (tgt : Int)) (kt : x = y → vv_V l G M d tgt lv rest σ E) (kf : ¬ x = y → vv_V l G M d (pc + 3) lv rest σ E) : vv_V l G M d pc lv (.int y :: .int x :: rest) σ E := by
  by_cases h : x = y
  · exact vv_lift (fun hx hb _ _ _ _ hl kk => lv_icmp_eq hx hb dg ht (fun _ => kk _ hl) (fun n => absurd h n)) (kt h)
  · exact vv_lift (fun hx hb _ _ _ _ hl kk => lv_icmp_eq hx hb dg ht (fun n => absurd n h) (fun _ => kk _ hl)) (kf h)
theorem vv_if_ne {x : Int32} {off : Int} {tgt : Nat} (dg : decode M.2.1 pc = .ok (.ifCond .ne off, 3)) (ht : (pc : Int) + off = (tgt : Int)) (kt : ¬ x = 0 → vv_V l G M d tgt lv rest σ E) (kf : x = 0 → vv_V l G M d (pc + 3) lv rest σ E) : vv_V l G M d pc lv (.int x :: rest) σ E := by
  by_cases h : x = 0
  · exact vv_lift (fun hx hb _ _ _ _ hl kk => lv_if_ne hx hb dg ht (fun n => absurd h n) (fun _ => kk _ hl)) (kf h)
  · exact vv_lift (fun hx hb _ _ _ _ hl kk => lv_if_ne hx hb dg ht (fun _ => kk _ hl) (fun n => absurd n h)) (kt h)
theorem vv_icmp_ne {x y : Int32} {off : Int} {tgt : Nat} (dg : decode M.2.1 pc = .ok (.if_icmp .ne off, 3)) (ht : (pc : Int) + off = (tgt : Int)) (kt : ¬ x = y → vv_V l G M d tgt lv rest σ E) (kf : x = y → vv_V l G M d (pc + 3) lv rest σ E) : vv_V l G M d pc lv (.int y :: .int x :: rest) σ E := by
  by_cases h : x = y
  · exact vv_lift (fun hx hb _ _ _ _ hl kk => lv_icmp_ne hx hb dg ht (fun n => absurd h n) (fun _ => kk _ hl)) (kf h)
  · exact vv_lift (fun hx hb _ _ _ _ hl kk => lv_icmp_ne hx hb dg ht (fun _ => kk _ hl) (fun n => absurd n h)) (kt h)
theorem vv_if_lt {x : Int32} {off : Int} {tgt : Nat} (dg : decode M.2.1 pc = .ok (.ifCond .lt off, 3)) (ht : (pc : Int) + off = (tgt : Int)) (kt : x < 0 → vv_V l G M d tgt lv rest σ E) (kf : ¬ x < 0 → vv_V l G M d (pc + 3) lv rest σ E) : vv_V l G M d pc lv (.int x :: rest) σ E := by
  by_cases h : x < 0
  · exact vv_lift (fun hx hb _ _ _ _ hl kk => lv_if_lt hx hb dg ht (fun _ => kk _ hl) (fun n => absurd h n)) (kt h)
  · exact vv_lift (fun hx hb _ _ _ _ hl kk => lv_if_lt hx hb dg ht (fun n => absurd n h) (fun _ => kk _ hl)) (kf h)
theorem vv_icmp_lt {x y : Int32} {off : Int} {tgt : Nat} (dg : decode M.2.1 pc = .ok (.if_icmp .lt off, 3)) (ht : (pc : Int) + off = (tgt : Int)) (kt : x < y → vv_V l G M d tgt lv rest σ E) (kf : ¬ x < y → vv_V l G M d (pc + 3) lv rest σ E) : vv_V l G M d pc lv (.int y :: .int x :: rest) σ E := by
  by_cases h : x < y
  · exact vv_lift (fun hx hb _ _ _ _ hl kk => lv_icmp_lt hx hb dg ht (fun _ => kk _ hl) (fun n => absurd h n)) (kt h)
  · exact vv_lift (fun hx hb _ _ _ _ hl kk => lv_icmp_lt hx hb dg ht (fun n => absurd n h) (fun _ => kk _ hl)) (kf h)
theorem vv_if_ge {x : Int32} {off : Int} {tgt : Nat} (dg : decode M.2.1 pc = .ok (.ifCond .ge off, 3)) (ht : (pc : Int) + off = (tgt : Int)) (kt : 0 ≤ x → vv_V l G M d tgt lv rest σ E) (kf : ¬ 0 ≤ x → vv_V l G M d (pc + 3) lv rest σ E) : vv_V l G M d pc lv (.int x :: rest) σ E := by
  by_cases h : 0 ≤ x
  · exact vv_lift (fun hx hb _ _ _ _ hl kk => lv_if_ge hx hb dg ht (fun _ => kk _ hl) (fun n => absurd h n)) (kt h)
  · exact vv_lift (fun hx hb _ _ _ _ hl kk => lv_if_ge hx hb dg ht (fun n => absurd n h) (fun _ => kk _ hl)) (kf h)
theorem vv_icmp_ge {x y : Int32} {off : Int} {tgt : Nat} (dg : decode M.2.1 pc = .ok (.if_icmp .ge off, 3)) (ht : (pc : Int) + off = (tgt : Int)) (kt : y ≤ x → vv_V l G M d tgt lv rest σ E) (kf : ¬ y ≤ x → vv_V l G M d (pc + 3) lv rest σ E) : vv_V l G M d pc lv (.int y :: .int x :: rest) σ E := by
  by_cases h : y ≤ x
  · exact vv_lift (fun hx hb _ _ _ _ hl kk => lv_icmp_ge hx hb dg ht (fun _ => kk _ hl) (fun n => absurd h n)) (kt h)
  · exact vv_lift (fun hx hb _ _ _ _ hl kk => lv_icmp_ge hx hb dg ht (fun n => absurd n h) (fun _ => kk _ hl)) (kf h)
theorem vv_if_gt {x : Int32} {off : Int} {tgt : Nat} (dg : decode M.2.1 pc = .ok (.ifCond .gt off, 3)) (ht : (pc : Int) + off = (tgt : Int)) (kt : 0 < x → vv_V l G M d tgt lv rest σ E) (kf : ¬ 0 < x → vv_V l G M d (pc + 3) lv rest σ E) : vv_V l G M d pc lv (.int x :: rest) σ E := by
  by_cases h : 0 < x
  · exact vv_lift (fun hx hb _ _ _ _ hl kk => lv_if_gt hx hb dg ht (fun _ => kk _ hl) (fun n => absurd h n)) (kt h)
  · exact vv_lift (fun hx hb _ _ _ _ hl kk => lv_if_gt hx hb dg ht (fun n => absurd n h) (fun _ => kk _ hl)) (kf h)
theorem vv_icmp_gt {x y : Int32} {off : Int} {tgt : Nat} (dg : decode M.2.1 pc = .ok (.if_icmp .gt off, 3)) (ht : (pc : Int) + off = (tgt : Int)) (kt : y < x → vv_V l G M d tgt lv rest σ E) (kf : ¬ y < x → vv_V l G M d (pc + 3) lv rest σ E) : vv_V l G M d pc lv (.int y :: .int x :: rest) σ E := by
  by_cases h : y < x
  · exact vv_lift (fun hx hb _ _ _ _ hl kk => lv_icmp_gt hx hb dg ht (fun _ => kk _ hl) (fun n => absurd h n)) (kt h)
  · exact vv_lift (fun hx hb _ _ _ _ hl kk => lv_icmp_gt hx hb dg ht (fun n => absurd n h) (fun _ => kk _ hl)) (kf h)
theorem vv_if_le {x : Int32} {off : Int} {tgt : Nat} (dg : decode M.2.1 pc = .ok (.ifCond .le off, 3)) (ht : (pc : Int) + off = (tgt : Int)) (kt : x ≤ 0 → vv_V l G M d tgt lv rest σ E) (kf : ¬ x ≤ 0 → vv_V l G M d (pc + 3) lv rest σ E) : vv_V l G M d pc lv (.int x :: rest) σ E := by
  by_cases h : x ≤ 0
  · exact vv_lift (fun hx hb _ _ _ _ hl kk => lv_if_le hx hb dg ht (fun _ => kk _ hl) (fun n => absurd h n)) (kt h)
  · exact vv_lift (fun hx hb _ _ _ _ hl kk => lv_if_le hx hb dg ht (fun n => absurd n h) (fun _ => kk _ hl)) (kf h)
theorem vv_icmp_le {x y : Int32} {off : Int} {tgt : Nat} (dg : decode M.2.1 pc = .ok (.if_icmp .le off, 3)) (ht : (pc : Int) + off = (tgt : Int)) (kt : x ≤ y → vv_V l G M d tgt lv rest σ E) (kf : ¬ x ≤ y → vv_V l G M d (pc + 3) lv rest σ E) : vv_V l G M d pc lv (.int y :: .int x :: rest) σ E := by
  by_cases h : x ≤ y
  · exact vv_lift (fun hx hb _ _ _ _ hl kk => lv_icmp_le hx hb dg ht (fun _ => kk _ hl) (fun n => absurd h n)) (kt h)
  · exact vv_lift (fun hx hb _ _ _ _ hl kk => lv_icmp_le hx hb dg ht (fun n => absurd n h) (fun _ => kk _ hl)) (kf h)
theorem vv_ifnull {x : Nat} {off : Int} (dg : decode M.2.1 pc = .ok (.ifnull off, 3)) (k : vv_V l G M d (pc + 3) lv rest σ E) : vv_V l G M d pc lv (.ref x :: rest) σ E := vv_lift (fun hx hb _ _ _ _ hl kk => lv_ifnull hx hb dg (kk _ hl)) k
theorem vv_ifnullN {off : Int} {tgt : Nat} (dg : decode M.2.1 pc = .ok (.ifnull off, 3)) (ht : (pc : Int) + off = (tgt : Int)) (k : vv_V l G M d tgt lv rest σ E) : vv_V l G M d pc lv (.null :: rest) σ E := vv_lift (fun hx hb _ _ _ _ hl kk => lv_ifnullN hx hb dg ht (kk _ hl)) k
theorem vv_ifnonnull {x : Nat} {off : Int} {tgt : Nat} (dg : decode M.2.1 pc = .ok (.ifnonnull off, 3)) (ht : (pc : Int) + off = (tgt : Int)) (k : vv_V l G M d tgt lv rest σ E) : vv_V l G M d pc lv (.ref x :: rest) σ E := vv_lift (fun hx hb _ _ _ _ hl kk => lv_ifnonnull hx hb dg ht (kk _ hl)) k
theorem vv_ifnonnullN {off : Int} (dg : decode M.2.1 pc = .ok (.ifnonnull off, 3)) (k : vv_V l G M d (pc + 3) lv rest σ E) : vv_V l G M d pc lv (.null :: rest) σ E := vv_lift (fun hx hb _ _ _ _ hl kk => lv_ifnonnullN hx hb dg (kk _ hl)) k
theorem vv_acmp_eq {rx ry : Option Nat} {off : Int} {tgt : Nat} (dg : decode M.2.1 pc = .ok (.if_acmp .eq off, 3)) (ht : (pc : Int) + off = (tgt : Int)) (kt : rx = ry → vv_V l G M d tgt lv rest σ E) (kf : ¬ rx = ry → vv_V l G M d (pc + 3) lv rest σ E) : vv_V l G M d pc lv (va_rf ry :: va_rf rx :: rest) σ E := by
  by_cases h : rx = ry
  · exact vv_lift (fun hx hb _ _ _ _ hl kk => lv_acmp_eq hx hb dg ht (fun _ => kk _ hl) (fun n => absurd h n)) (kt h)
  · exact vv_lift (fun hx hb _ _ _ _ hl kk => lv_acmp_eq hx hb dg ht (fun n => absurd n h) (fun _ => kk _ hl)) (kf h)
theorem vv_acmp_ne {rx ry : Option Nat} {off : Int} {tgt : Nat} (dg : decode M.2.1 pc = .ok (.if_acmp .ne off, 3)) (ht : (pc : Int) + off = (tgt : Int)) (kt : ¬ rx = ry → vv_V l G M d tgt lv rest σ E) (kf : rx = ry → vv_V l G M d (pc + 3) lv rest σ E) : vv_V l G M d pc lv (va_rf ry :: va_rf rx :: rest) σ E := by
  by_cases h : rx = ry
  · exact vv_lift (fun hx hb _ _ _ _ hl kk => lv_acmp_ne hx hb dg ht (fun n => absurd h n) (fun _ => kk _ hl)) (kf h)
  · exact vv_lift (fun hx hb _ _ _ _ hl kk => lv_acmp_ne hx hb dg ht (fun _ => kk _ hl) (fun n => absurd n h)) (kt h)
theorem vv_tableIn {dflt lo hi : Int} {offs : Array Int} {len : Nat} {x : Int32} {off : Int} {tgt : Nat} (dg : decode M.2.1 pc = .ok (.tableswitch dflt lo hi offs, len)) (h1 : ¬ x.toInt < lo) (h2 : ¬ hi < x.toInt) (ho : offs[(x.toInt - lo).toNat]? = some off) (ht : (pc : Int) + off = (tgt : Int)) (k : vv_V l G M d tgt lv rest σ E) : vv_V l G M d pc lv (.int x :: rest) σ E := vv_lift (fun hx hb _ _ _ _ hl kk => lv_tableIn hx hb dg h1 h2 ho ht (kk _ hl)) k
theorem vv_tableOut {dflt lo hi : Int} {offs : Array Int} {len : Nat} {x : Int32} {tgt : Nat} (dg : decode M.2.1 pc = .ok (.tableswitch dflt lo hi offs, len)) (h : x.toInt < lo ∨ hi < x.toInt) (ht : (pc : Int) + dflt = (tgt : Int)) (k : vv_V l G M d tgt lv rest σ E) : vv_V l G M d pc lv (.int x :: rest) σ E := vv_lift (fun hx hb _ _ _ _ hl kk => lv_tableOut hx hb dg h ht (kk _ hl)) k
theorem vv_lookup {dflt : Int} {ps : Array (Int × Int)} {len : Nat} {x : Int32} {off : Int} {tgt : Nat} (dg : decode M.2.1 pc = .ok (.lookupswitch dflt ps, len)) (hp : (ps.toList.zip (ps.toList.drop 1)).all (fun (a, next) => a.1 < next.1) = true) (ho : Op.lookupswitch.offset ps.toList dflt x.toInt = off) (ht : (pc : Int) + off = (tgt : Int)) (k : vv_V l G M d tgt lv rest σ E) : vv_V l G M d pc lv (.int x :: rest) σ E := vv_lift (fun hx hb _ _ _ _ hl kk => lv_lookup hx hb dg hp ho ht (kk _ hl)) k
theorem vv_lcmp {x y : Int64} (dg : decode M.2.1 pc = .ok (.lcmp, 1)) (k : vv_V l G M d (pc + 1) lv (.int (lg_cmp x y) :: rest) σ E) : vv_V l G M d pc lv (.long y :: .long x :: rest) σ E := vv_lift (fun hx hb _ _ _ _ hl kk => W.lcmp hx hb dg (kk _ hl)) k
/-! reads -/
theorem vv_K.arr {s : State} (h : vv_K G s) {ty : FieldType} (ht : ty ∈ G.2.2.2.1) : va_K G.2.1 G.1 [(G.2.2.1 ty, ty)] s := by
  refine ⟨h.2.1.1, fun k q hk => ?_⟩
  match k, hk with
  | 0, hk => cases hk; exact h.2.2.1 ty ht
  | k + 1, hk => simp at hk
theorem vv_at.P {a : Nat} {b : Bool} {x : FieldType × vp_A} {H : Heap} (h : vv_at G a (b, .inl x) H) : va_P G.2.1 G.1 [(a, .inl (G.2.2.1 x.1, x.2))] H := by
  intro k q hk
  match k, hk with
  | 0, hk => cases hk; exact h.2.2
  | k + 1, hk => simp at hk
theorem vv_at.Po {a : Nat} {b : Bool} {o : Nat × List Value} {H : Heap} (h : vv_at G a (b, .inr o) H) : va_P G.2.1 G.1 [(a, .inr o)] H := by
  intro k q hk
  match k, hk with
  | 0, hk => cases hk; exact h.2
  | k + 1, hk => simp at hk
/-- a field link of a class's own field -/
def vv_fld (G : vv_G) (own : String) (ix ci k : Nat) : Prop := ∃ (C : String) (T : u_T) (N : Nat), G.1[ci]? = some (C, T, N) ∧ (∀ w ∈ u_ws C T N, w ∈ lw_all) ∧ k < N ∧ Cond.fieldLink own ix (T k).1 (T k).2.1 (T k).2.2.1 ∈ lw_all
def vv_fldN (G : vv_G) (own : String) (ix ci k : Nat) (host : String) : Prop := ∃ (C : String) (T : u_T) (N : Nat), G.1[ci]? = some (C, T, N) ∧ (∀ w ∈ u_ws C T N, w ∈ lw_all) ∧ k < N ∧ (va_Nw (.fieldLinkNest own ix (T k).1 (T k).2.1 (T k).2.2.1 host)) ∈ G.2.2.2.2.2.1
theorem vv_get {a : Nat} {f : Bool} {ix ci k : Nat} {fs : List Value} {v : Value} (hf : vv_fld G M.1.cls ix ci k) (he : σ.1 a = some (f, .inr (ci, fs))) (hv : fs[k]? = some v) (dg : decode M.2.1 pc = .ok (.getfield ix, 3)) (k9 : vv_V l G M d (pc + 3) lv (v :: rest) σ E) : vv_V l G M d pc lv (.ref a :: rest) σ E := by
  obtain ⟨C, T, N, hc, hin, hk, hlink⟩ := hf
  exact vv_lift (fun hx hb ho hts hK hR hl kk => va_get hx hb hts hin ho hK.2.1 (hR.2.2.1 _ _ he).Po 0 rfl hc k hk (hts _ hlink) (fun _ h => h) hv dg (kk _ hl)) k9
theorem vv_getN {a : Nat} {f : Bool} {ix ci k : Nat} {host : String} {fs : List Value} {v : Value} (hf : vv_fldN G M.1.cls ix ci k host) (he : σ.1 a = some (f, .inr (ci, fs))) (hv : fs[k]? = some v) (dg : decode M.2.1 pc = .ok (.getfield ix, 3)) (k9 : vv_V l G M d (pc + 3) lv (v :: rest) σ E) : vv_V l G M d pc lv (.ref a :: rest) σ E := by
  obtain ⟨C, T, N, hc, hin, hk, hlink⟩ := hf
  exact vv_lift (fun hx hb ho hts hK hR hl kk => va_getN hx hb hts hin ho hK.2.1 (hR.2.2.1 _ _ he).Po 0 rfl hc k hk (va_Nw.use rfl (hK.2.2.2 _ hlink)) (fun _ h => h) hv dg (kk _ hl)) k9
theorem vv_alen {a : Nat} {f : Bool} {x : FieldType × vp_A} {v : Int32} (he : σ.1 a = some (f, .inl x)) (hv : Int32.ofNat x.2.1 = v) (dg : decode M.2.1 pc = .ok (.arraylength, 1)) (k9 : vv_V l G M d (pc + 1) lv (.int v :: rest) σ E) : vv_V l G M d pc lv (.ref a :: rest) σ E :=
  vv_lift (fun hx hb ho hts hK hR hl kk => va_alen hx hb (hK.arr (hR.2.2.1 _ _ he).2.1) (hR.2.2.1 _ _ he).P 0 0 rfl rfl hv dg (kk _ hl)) k9

theorem vv_iald {a n : Nat} {f : Bool} {g : Nat → Int32} {i : Int32} (he : σ.1 a = some (f, .inl (.int, n, .inl g))) (hin : vp_in i n) (dg : decode M.2.1 pc = .ok (.iaload, 1)) (k9 : vv_V l G M d (pc + 1) lv (.int (g i.toNatClampNeg) :: rest) σ E) : vv_V l G M d pc lv (.int i :: .ref a :: rest) σ E :=
  vv_lift (fun hx hb ho hts hK hR hl kk => va_iald hx hb (hK.arr (hR.2.2.1 _ _ he).2.1) (hR.2.2.1 _ _ he).P 0 0 rfl rfl hin dg (kk _ hl)) k9
theorem vv_bald {a n : Nat} {f : Bool} {g : Nat → Int32} {i : Int32} (he : σ.1 a = some (f, .inl (.byte, n, .inl g))) (hin : vp_in i n) (dg : decode M.2.1 pc = .ok (.baload, 1)) (k9 : vv_V l G M d (pc + 1) lv (.int (g i.toNatClampNeg) :: rest) σ E) : vv_V l G M d pc lv (.int i :: .ref a :: rest) σ E :=
  vv_lift (fun hx hb ho hts hK hR hl kk => va_bald hx hb (hK.arr (hR.2.2.1 _ _ he).2.1) (hR.2.2.1 _ _ he).P 0 0 rfl rfl hin dg (kk _ hl)) k9
theorem vv_zald {a n : Nat} {f : Bool} {g : Nat → Int32} {i : Int32} (he : σ.1 a = some (f, .inl (.boolean, n, .inl g))) (hin : vp_in i n) (dg : decode M.2.1 pc = .ok (.baload, 1)) (k9 : vv_V l G M d (pc + 1) lv (.int (g i.toNatClampNeg) :: rest) σ E) : vv_V l G M d pc lv (.int i :: .ref a :: rest) σ E :=
  vv_lift (fun hx hb ho hts hK hR hl kk => va_zald hx hb (hK.arr (hR.2.2.1 _ _ he).2.1) (hR.2.2.1 _ _ he).P 0 0 rfl rfl hin dg (kk _ hl)) k9
theorem vv_lald {a n : Nat} {f : Bool} {g : Nat → Int64} {i : Int32} (he : σ.1 a = some (f, .inl (.long, n, .inr (.inl g)))) (hin : vp_in i n) (dg : decode M.2.1 pc = .ok (.laload, 1)) (k9 : vv_V l G M d (pc + 1) lv (.long (g i.toNatClampNeg) :: rest) σ E) : vv_V l G M d pc lv (.int i :: .ref a :: rest) σ E :=
  vv_lift (fun hx hb ho hts hK hR hl kk => va_lald hx hb (hK.arr (hR.2.2.1 _ _ he).2.1) (hR.2.2.1 _ _ he).P 0 0 rfl rfl hin dg (kk _ hl)) k9
theorem vv_aald {a n : Nat} {f : Bool} {ty : FieldType} {g : Nat → Option Nat} {i : Int32} (hty : ty.isReference = true) (he : σ.1 a = some (f, .inl (ty, n, .inr (.inr (.inr (.inr g)))))) (hin : vp_in i n) (dg : decode M.2.1 pc = .ok (.aaload, 1)) (k9 : vv_V l G M d (pc + 1) lv (va_rf (g i.toNatClampNeg) :: rest) σ E) : vv_V l G M d pc lv (.int i :: .ref a :: rest) σ E := by
  have hlt : i.toNatClampNeg < n := Nat.not_le.mp fun q => hin (Or.inr q)
  exact vv_lift (fun hx hb ho hts hK hR hl kk => W.aald (v := va_rf (g i.toNatClampNeg)) (ty := ty) hx hb (hR.2.2.1 _ _ he).2.2 ((hK.2.2.1 _ (hR.2.2.1 _ _ he).2.1).1 n (fun j => va_rf (g j))) hty (fun q => by cases q) (by show ¬ (i < 0 ∨ (arrV _ _ _).slots.size ≤ _); rw [arrV_size]; exact hin) (by show (arrV _ _ _).slots[_]? = _; rw [arrV_read _ _ hlt]) rfl rfl dg (kk _ hl)) k9
/-! writes -/
theorem vv_iast {a n : Nat} {g : Nat → Int32} {i : Int32} {x : Int32} (he : σ.1 a = some (true, .inl (.int, n, .inl g))) (hin : vp_in i n) (dg : decode M.2.1 pc = .ok (.iastore, 1)) (k9 : vv_V l G M d (pc + 1) lv rest (vv_up σ.1 a (true, .inl (.int, n, .inl (upd g i.toNatClampNeg x))), σ.2) E) : vv_V l G M d pc lv (.int x :: .int i :: .ref a :: rest) σ E := by
  refine ⟨k9.1, fun p e9 R s m args below meth c H locs ls σ0 C h0 hR hS hl => ?_⟩
  have hK := C.2.2.2.2.2.2.2.2.1
  have ha := hR.2.2.1 a _ he
  refine W.iast C.1 C.2.1 ha.2.2 ((hK.2.2.1 _ ha.2.1).1 n (fun j => .int (g j))) (fun q => by cases q) (by show ¬ (i < 0 ∨ (arrV _ _ _).slots.size ≤ _); rw [arrV_size]; exact hin) rfl rfl dg fun H1 e z oq => ?_
  refine k9.2 p e9 R s m args below meth c H1 _ ls σ0 C h0 (hR.put hK.1 ⟨ha.1, ha.2.1, ?_⟩ (ha.1 rfl) z oq) (hS.put z oq (ha.1 rfl)) hl
  show H1[a]? = some (vp_cell _ _)
  rw [e]
  rw [vp_cell_i, vp_cell_i, arrV_store]
  congr 2
  funext q
  by_cases hq : q = i.toNatClampNeg
  · subst hq
    simp [updV, upd]
    try rfl
  · simp [updV, upd, hq]
theorem vv_bast {a n : Nat} {g : Nat → Int32} {i : Int32} {x : Int32} (he : σ.1 a = some (true, .inl (.byte, n, .inl g))) (hin : vp_in i n) (dg : decode M.2.1 pc = .ok (.bastore, 1)) (k9 : vv_V l G M d (pc + 1) lv rest (vv_up σ.1 a (true, .inl (.byte, n, .inl (upd g i.toNatClampNeg (vp_nar .byte x)))), σ.2) E) : vv_V l G M d pc lv (.int x :: .int i :: .ref a :: rest) σ E := by
  refine ⟨k9.1, fun p e9 R s m args below meth c H locs ls σ0 C h0 hR hS hl => ?_⟩
  have hK := C.2.2.2.2.2.2.2.2.1
  have ha := hR.2.2.1 a _ he
  refine W.bast C.1 C.2.1 ha.2.2 ((hK.2.2.1 _ ha.2.1).1 n (fun j => .int (g j))) (fun q => by cases q) (by show ¬ (i < 0 ∨ (arrV _ _ _).slots.size ≤ _); rw [arrV_size]; exact hin) rfl rfl dg fun H1 e z oq => ?_
  refine k9.2 p e9 R s m args below meth c H1 _ ls σ0 C h0 (hR.put hK.1 ⟨ha.1, ha.2.1, ?_⟩ (ha.1 rfl) z oq) (hS.put z oq (ha.1 rfl)) hl
  show H1[a]? = some (vp_cell _ _)
  rw [e]
  rw [vp_cell_i, vp_cell_i, arrV_store]
  congr 2
  funext q
  by_cases hq : q = i.toNatClampNeg
  · subst hq
    simp [updV, upd, vp_nar]
    try rfl
  · simp [updV, upd, vp_nar, hq]
theorem vv_zast {a n : Nat} {g : Nat → Int32} {i : Int32} {x : Int32} (he : σ.1 a = some (true, .inl (.boolean, n, .inl g))) (hin : vp_in i n) (dg : decode M.2.1 pc = .ok (.bastore, 1)) (k9 : vv_V l G M d (pc + 1) lv rest (vv_up σ.1 a (true, .inl (.boolean, n, .inl (upd g i.toNatClampNeg (vp_nar .boolean x)))), σ.2) E) : vv_V l G M d pc lv (.int x :: .int i :: .ref a :: rest) σ E := by
  refine ⟨k9.1, fun p e9 R s m args below meth c H locs ls σ0 C h0 hR hS hl => ?_⟩
  have hK := C.2.2.2.2.2.2.2.2.1
  have ha := hR.2.2.1 a _ he
  refine W.zast C.1 C.2.1 ha.2.2 ((hK.2.2.1 _ ha.2.1).1 n (fun j => .int (g j))) (fun q => by cases q) (by show ¬ (i < 0 ∨ (arrV _ _ _).slots.size ≤ _); rw [arrV_size]; exact hin) rfl rfl dg fun H1 e z oq => ?_
  refine k9.2 p e9 R s m args below meth c H1 _ ls σ0 C h0 (hR.put hK.1 ⟨ha.1, ha.2.1, ?_⟩ (ha.1 rfl) z oq) (hS.put z oq (ha.1 rfl)) hl
  show H1[a]? = some (vp_cell _ _)
  rw [e]
  rw [vp_cell_i, vp_cell_i, arrV_store]
  congr 2
  funext q
  by_cases hq : q = i.toNatClampNeg
  · subst hq
    simp [updV, upd, vp_nar]
    try rfl
  · simp [updV, upd, vp_nar, hq]
theorem vv_last {a n : Nat} {g : Nat → Int64} {i : Int32} {x : Int64} (he : σ.1 a = some (true, .inl (.long, n, .inr (.inl g)))) (hin : vp_in i n) (dg : decode M.2.1 pc = .ok (.lastore, 1)) (k9 : vv_V l G M d (pc + 1) lv rest (vv_up σ.1 a (true, .inl (.long, n, .inr (.inl (vp_updL g i.toNatClampNeg x)))), σ.2) E) : vv_V l G M d pc lv (.long x :: .int i :: .ref a :: rest) σ E := by
  refine ⟨k9.1, fun p e9 R s m args below meth c H locs ls σ0 C h0 hR hS hl => ?_⟩
  have hK := C.2.2.2.2.2.2.2.2.1
  have ha := hR.2.2.1 a _ he
  refine W.last C.1 C.2.1 ha.2.2 ((hK.2.2.1 _ ha.2.1).1 n (fun j => .long (g j))) (fun q => by cases q) (by show ¬ (i < 0 ∨ (arrV _ _ _).slots.size ≤ _); rw [arrV_size]; exact hin) rfl rfl dg fun H1 e z oq => ?_
  refine k9.2 p e9 R s m args below meth c H1 _ ls σ0 C h0 (hR.put hK.1 ⟨ha.1, ha.2.1, ?_⟩ (ha.1 rfl) z oq) (hS.put z oq (ha.1 rfl)) hl
  show H1[a]? = some (vp_cell _ _)
  rw [e]
  rw [vp_cell_l, vp_cell_l, arrV_store]
  congr 2
  funext q
  by_cases hq : q = i.toNatClampNeg
  · subst hq
    simp [updV, vp_updL]
    try rfl
  · simp [updV, vp_updL, hq]
def vv_put (G : vv_G) (own : String) (ix ci k : Nat) (ty : FieldType) (host : Option String) : Prop := ∃ (C : String) (T : u_T) (N : Nat) (ty0 : Nat → FieldType), G.1[ci]? = some (C, T, N) ∧ (∀ w ∈ u_ws C T N, w ∈ lw_all) ∧ (∀ k, k < N → parseFieldDescriptor (T k).2.2.1 = some (ty0 k)) ∧ (∀ a, a < N → ∀ b, b < N → a ≠ b → (T a).2.1 ≠ (T b).2.1) ∧ k < N ∧ parseFieldDescriptor (T k).2.2.1 = some ty ∧
  match host with
  | none => Cond.fieldLink own ix (T k).1 (T k).2.1 (T k).2.2.1 ∈ lw_all ∧ ((T k).2.2.2 = false ∨ ((T k).2.2.2 = true ∧ (T k).1 = own))
  | some h => (va_Nw (.fieldLinkNest own ix (T k).1 (T k).2.1 (T k).2.2.1 h)) ∈ G.2.2.2.2.2.1 ∧ (T k).2.2.2 = false
/-- putfield; a final one in its class's constructor ('hini') -/
theorem vv_putf {a : Nat} {ix ci k : Nat} {ty : FieldType} {fs : List Value} {v : Value} (hf : vv_put G M.1.cls ix ci k ty none) (hini : M.1.name = "<init>" ∨ (∀ C T N, G.1[ci]? = some (C, T, N) → (T k).2.2.2 = false)) (he : σ.1 a = some (true, .inr (ci, fs))) (hn : narrow ty v = v) (hfit : fits ty v = true) (hlen : k < fs.length) (dg : decode M.2.1 pc = .ok (.putfield ix, 3)) (k9 : vv_V l G M d (pc + 3) lv rest (vv_up σ.1 a (true, .inr (ci, fs.set k v)), σ.2) E) : vv_V l G M d pc lv (v :: .ref a :: rest) σ E := by
  refine ⟨k9.1, fun p e9 R s m args below meth c H locs ls σ0 C0 h0 hR hS hl => ?_⟩
  obtain ⟨C, T, N, ty0, hc, hin, hty, hnm, hk, hd, hlink, hfin⟩ := hf
  obtain ⟨hx, hb, hr, hlk, hml, ho, hnme, hts, hK, hrest⟩ := id C0
  have ha := hR.2.2.1 a _ he
  have hap := va_apart (own := M.1.cls) hts hin ty0 hty hnm hK.2.1 hc
  obtain ⟨r, h1, cell, q1, q2, q3, q4⟩ := ha.2
  have hr : r = (C, T, N) := Option.some.inj (h1.symm.trans hc)
  subst hr
  obtain ⟨hSl, hfc, kC, hkC, hkind⟩ := hK.2.1.1 ci _ hc
  obtain ⟨cf, kf, fi, f, hi, hsl⟩ := hSl k hk
  have hlay := hts _ (hin _ (u_in_lay hk))
  have hst := (u_facts hfc hkC (u_lays hts hin hk) hi).1
  have fin : ∀ H' : Heap, H'[a]? = some (cell.setSlot f.slot v) → H'.size = H.size → (∀ q, q ≠ a → H'[q]? = H[q]?) → vv_Rel G s (vv_up σ.1 a (true, .inr (ci, fs.set k v)), σ.2) H' := by
    intro H' e1 e2 e3
    rw [hsl] at e1
    exact hR.put hK.1 ⟨ha.1, ⟨_, hc, t_OB.to (V := updV (vp_V fs) k v) ⟨_, e1, q2, q3, t_set q4 hap hk v⟩ (fun j _ => vp_updV_set hlen v j)⟩⟩ (ha.1 rfl) e2 e3
  rcases hfin with hfin | ⟨hfin, hdecl⟩
  · unfold u_lay at hlay
    rw [if_neg (by rw [hfin]; decide)] at hlay
    have h6 := u_store hfc hkC hkind hlay hi hd hn hfit
    exact W.putK hx hb (f := f) ⟨ho, hts _ hlink, ⟨_, _, _, hi⟩, hst⟩ (by rw [q2]; exact h6) q1 q3 (by rw [hsl]; exact k2_hasslot (q4 k hk)) rfl rfl dg fun H' e1 e2 e3 => k9.2 p e9 R s m args below meth c H' _ ls σ0 C0 h0 (fin H' e1 e2 e3) (hS.put e2 e3 (ha.1 rfl)) hl
  · have hin2 : meth.name = "<init>" := by
      rcases hini with h | h
      · rw [hnme, h]
      · rw [h C T N hc] at hfin
        cases hfin
    unfold u_lay at hlay
    rw [if_pos hfin] at hlay
    have hcf : m.cls = cf := by
      obtain ⟨_, _, c', _, _, _, -, -, hf', -, -, -, hown2, -⟩ := Cond.laysFinal_spec hlay
      have e1 : c' = cf := by have := hi.symm.trans hf'; simp at this; exact this.1.symm
      rw [hdecl] at hown2
      rw [← e1]; exact Option.some.inj (ho.symm.trans hown2)
    have h6 := u_fits hfc hkC hkind (Or.inr hlay) hi hd hn hfit
    exact W.putFinK hx hb ho (hts _ hlink) hi hst hcf hin2 (by rw [q2]; exact h6) q1 q3 (by rw [hsl]; exact k2_hasslot (q4 k hk)) rfl rfl dg fun H' e1 e2 e3 => k9.2 p e9 R s m args below meth c H' _ ls σ0 C0 h0 (fin H' e1 e2 e3) (hS.put e2 e3 (ha.1 rfl)) hl
theorem vv_putN {a : Nat} {ix ci k : Nat} {ty : FieldType} {host : String} {fs : List Value} {v : Value} (hf : vv_put G M.1.cls ix ci k ty (some host)) (he : σ.1 a = some (true, .inr (ci, fs))) (hn : narrow ty v = v) (hfit : fits ty v = true) (hlen : k < fs.length) (dg : decode M.2.1 pc = .ok (.putfield ix, 3)) (k9 : vv_V l G M d (pc + 3) lv rest (vv_up σ.1 a (true, .inr (ci, fs.set k v)), σ.2) E) : vv_V l G M d pc lv (v :: .ref a :: rest) σ E := by
  refine ⟨k9.1, fun p e9 R s m args below meth c H locs ls σ0 C0 h0 hR hS hl => ?_⟩
  obtain ⟨C, T, N, ty0, hc, hin, hty, hnm, hk, hd, hlink, hfin⟩ := hf
  obtain ⟨hx, hb, hr, hlk, hml, ho, hnme, hts, hK, hrest⟩ := id C0
  have ha := hR.2.2.1 a _ he
  have hap := va_apart (own := M.1.cls) hts hin ty0 hty hnm hK.2.1 hc
  obtain ⟨r, h1, cell, q1, q2, q3, q4⟩ := ha.2
  have hr : r = (C, T, N) := Option.some.inj (h1.symm.trans hc)
  subst hr
  obtain ⟨hSl, hfc, kC, hkC, hkind⟩ := hK.2.1.1 ci _ hc
  obtain ⟨cf, kf, fi, f, hi, hsl⟩ := hSl k hk
  have hlay := hts _ (hin _ (u_in_lay hk))
  have hst := (u_facts hfc hkC (u_lays hts hin hk) hi).1
  unfold u_lay at hlay
  rw [if_neg (by rw [hfin]; decide)] at hlay
  have h6 := u_store hfc hkC hkind hlay hi hd hn hfit
  refine va_WputK hx hb (f := f) ho (va_Nw.use rfl (hK.2.2.2 _ hlink)) hi hst (by rw [q2]; exact h6) q1 q3 (by rw [hsl]; exact k2_hasslot (q4 k hk)) rfl rfl dg fun H' e1 e2 e3 => ?_
  rw [hsl] at e1 ⊢
  exact k9.2 p e9 R s m args below meth c H' _ ls σ0 C0 h0 (hR.put hK.1 ⟨ha.1, ⟨_, hc, t_OB.to (V := updV (vp_V fs) k v) ⟨_, e1, q2, q3, t_set q4 hap hk v⟩ (fun j _ => vp_updV_set hlen v j)⟩⟩ (ha.1 rfl) e2 e3) (hS.put e2 e3 (ha.1 rfl)) hl
/-! new -/
def vv_cls (G : vv_G) (own : String) (ix ci : Nat) (fs : List Value) (N : Nat) : Prop := ∃ (C : String) (T : u_T) (n : Nat) (ty : Nat → FieldType), G.1[ci]? = some (C, T, n) ∧ (∀ w ∈ u_ws C T n, w ∈ lw_all) ∧ (∀ k, k < n → parseFieldDescriptor (T k).2.2.1 = some (ty k)) ∧ Cond.classLink own ix C ∈ lw_all ∧ Cond.instantiable C N ∈ lw_all ∧ Cond.initialized C ∈ lw_all ∧ ∀ j, j < n → defaultValue (ty j) = vp_V fs j
theorem vv_new {ix ci N : Nat} {fs : List Value} (hf : vv_cls G M.1.cls ix ci fs N) (dg : decode M.2.1 pc = .ok (.new ix, 3)) (k9 : vv_V l G M d (pc + 3) lv (.ref σ.2.1 :: rest) (vv_up σ.1 σ.2.1 (true, .inr (ci, fs)), σ.2.1 + 1, σ.2.2 + N) E) : vv_V l G M d pc lv rest σ E := by
  refine ⟨⟨Nat.le_trans (Nat.le_succ _) k9.1.1, Nat.le_trans (Nat.le_add_right _ _) k9.1.2⟩, fun p e9 R s m args below meth c H locs ls σ0 C0 h0 hR hS hl => ?_⟩
  obtain ⟨C, T, n, ty, hc, hin, hty, hcl, hinst, hini, hfs⟩ := hf
  obtain ⟨hx, hb, hr, hlk, hml, ho, hnme, hts, hK, htab, hRm, hz0⟩ := id C0
  have hKn := hK.2.1.1 ci _ hc
  have b1 := k9.1.1
  have b2 := k9.1.2
  dsimp only at b1 b2
  refine W.newcK hx hb ho (hts _ hcl) (hts _ hinst) (hts _ hini) rfl dg (by rw [hRm]; show _ ≤ E.2.2.1 - σ0.2.1; omega) (by rw [hRm]; show _ ≤ E.2.2.2 - σ0.2.2; omega) hKn.2.1 hR.1 fun H1 kC hkC e1 z1 o1 => ?_
  have k := k9.2 p e9 R s m args below meth c H1 locs ls σ0 C0 ⟨by show σ0.2.1 ≤ σ.2.1 + 1; omega, by show σ0.2.2 ≤ σ.2.2 + N; omega⟩ (hR.push hK.1 ⟨fun _ => by show G.2.2.2.2.1 ≤ σ.2.1; rw [← hR.1]; exact hR.2.1, ⟨_, hc, (u_born ty hts hin hKn hkC e1 hty).to hfs⟩⟩ (by rw [z1, hR.1]) (fun q hq => o1 q (by rw [← hR.1]; exact hq))) ⟨Nat.le_trans hS.1 (by rw [z1, ← hR.1]; omega), fun q h1 h2 => (o1 q (by rw [← hR.1]; exact Nat.lt_of_lt_of_le h1 hS.1)).trans (hS.2.1 q h1 h2), hS.2.2⟩ hl
  dsimp only at k
  rw [show σ.2.1 + 1 - σ0.2.1 = σ.2.1 - σ0.2.1 + 1 by omega, show σ.2.2 + N - σ0.2.2 = σ.2.2 - σ0.2.2 + N by omega] at k
  exact k
theorem vv_newa {atype : ArrayType} {ty : FieldType} {n : Int32} {N : Nat} {a0 : vp_A} (hty : newarray.typeOf atype = ty) (hprim : ty.isReference = false) (hT : ty ∈ G.2.2.2.1) (harr : Cond.arrayClass ty ∈ lw_all) (ha : ∀ cA : ClassId, vp_cell cA a0 = arrV cA N (fun _ => defaultValue ty)) (hn : ¬ n < 0) (hN : n.toNatClampNeg = N) (hby : N * componentBytes ty ≤ 536870912) (dg : decode M.2.1 pc = .ok (.newarray atype, 2)) (k9 : vv_V l G M d (pc + 2) lv (.ref σ.2.1 :: rest) (vv_up σ.1 σ.2.1 (true, .inl (ty, a0)), σ.2.1 + 1, σ.2.2 + N) E) : vv_V l G M d pc lv (.int n :: rest) σ E := by
  subst hty
  refine ⟨⟨Nat.le_trans (Nat.le_succ _) k9.1.1, Nat.le_trans (Nat.le_add_right _ _) k9.1.2⟩, fun p e9 R s m args below meth c H locs ls σ0 C0 h0 hR hS hl => ?_⟩
  obtain ⟨hx, hb, hr, hlk, hml, ho, hnme, hts, hK, htab, hRm, hz0⟩ := id C0
  have b1 := k9.1.1
  have b2 := k9.1.2
  dsimp only at b1 b2
  refine va_newaK hx hb (hts _ harr) rfl dg rfl hn hN hby (by rw [hRm]; show _ ≤ E.2.2.1 - σ0.2.1; omega) (by rw [hRm]; show _ ≤ E.2.2.2 - σ0.2.2; omega) hR.1 fun H1 cA e1 z1 o1 hAr hNm => ?_
  have hca : G.2.2.1 (newarray.typeOf atype) = cA := by
    have h1 := (hK.2.2.1 _ hT).2
    have h2 : s.vm.findClass ("[" ++ (newarray.typeOf atype).toString) = some (G.2.2.1 (newarray.typeOf atype)) := by cases atype <;> exact h1
    exact Option.some.inj (h2.symm.trans hNm)
  have k := k9.2 p e9 R s m args below meth c H1 locs ls σ0 C0 ⟨by show σ0.2.1 ≤ σ.2.1 + 1; omega, by show σ0.2.2 ≤ σ.2.2 + N; omega⟩ (hR.push hK.1 ⟨fun _ => by show G.2.2.2.2.1 ≤ σ.2.1; rw [← hR.1]; exact hR.2.1, ⟨hT, by show H1[_]? = some (vp_cell (G.2.2.1 (newarray.typeOf atype)) a0); rw [hca, ha]; exact e1⟩⟩ (by rw [z1, hR.1]) (fun q hq => o1 q (by rw [← hR.1]; exact hq))) ⟨Nat.le_trans hS.1 (by rw [z1, ← hR.1]; omega), fun q h1 h2 => (o1 q (by rw [← hR.1]; exact Nat.lt_of_lt_of_le h1 hS.1)).trans (hS.2.1 q h1 h2), hS.2.2⟩ hl
  dsimp only at k
  rw [show σ.2.1 + 1 - σ0.2.1 = σ.2.1 - σ0.2.1 + 1 by omega, show σ.2.2 + N - σ0.2.2 = σ.2.2 - σ0.2.2 + N by omega] at k
  exact k
/-! ends -/
theorem vv_iret {v : Int32} (hr : M.2.2.2.1 = some .int) (dg : decode M.2.1 pc = .ok (.ireturn, 1)) : vv_V l G M d pc lv [.int v] σ (.inl (some (.int v)), σ) :=
  ⟨⟨Nat.le_refl _, Nat.le_refl _⟩, fun p e9 R s m args below meth c H locs ls σ0 C h0 hR hS hl => vx_ret (W.iret C.1 C.2.1 (C.2.2.1.trans hr) (fun t ht hW => ⟨_, rfl, rfl, by rw [ht]; exact hR.moved C.2.2.2.2.2.2.2.2.1.1 hW.alike, hS.F ht⟩) hS.2.2 dg C.2.2.2.1)⟩
theorem vv_zret {v : Int32} {ty : FieldType} (hr : M.2.2.2.1 = some ty) (hn : narrow ty (.int v) = .int v) (dg : decode M.2.1 pc = .ok (.ireturn, 1)) : vv_V l G M d pc lv [.int v] σ (.inl (some (.int v)), σ) :=
  ⟨⟨Nat.le_refl _, Nat.le_refl _⟩, fun p e9 R s m args below meth c H locs ls σ0 C h0 hR hS hl => vx_ret (W.zret C.1 C.2.1 (C.2.2.1.trans hr) hn (fun t ht hW => ⟨_, rfl, rfl, by rw [ht]; exact hR.moved C.2.2.2.2.2.2.2.2.1.1 hW.alike, hS.F ht⟩) hS.2.2 dg C.2.2.2.1)⟩
theorem vv_lret {v : Int64} (hr : M.2.2.2.1 = some .long) (dg : decode M.2.1 pc = .ok (.lreturn, 1)) : vv_V l G M d pc lv [.long v] σ (.inl (some (.long v)), σ) :=
  ⟨⟨Nat.le_refl _, Nat.le_refl _⟩, fun p e9 R s m args below meth c H locs ls σ0 C h0 hR hS hl => vx_ret (W.lret C.1 C.2.1 (C.2.2.1.trans hr) (fun t ht hW => ⟨_, rfl, rfl, by rw [ht]; exact hR.moved C.2.2.2.2.2.2.2.2.1.1 hW.alike, hS.F ht⟩) hS.2.2 dg C.2.2.2.1)⟩
theorem vv_vret (hr : M.2.2.2.1 = none) (dg : decode M.2.1 pc = .ok (.return_, 1)) : vv_V l G M d pc lv [] σ (.inl none, σ) :=
  ⟨⟨Nat.le_refl _, Nat.le_refl _⟩, fun p e9 R s m args below meth c H locs ls σ0 C h0 hR hS hl => vx_ret (W.vret C.1 C.2.1 (C.2.2.1.trans hr) (fun t ht hW => ⟨_, rfl, rfl, by rw [ht]; exact hR.moved C.2.2.2.2.2.2.2.2.1.1 hW.alike, hS.F ht⟩) hS.2.2 dg C.2.2.2.1)⟩
theorem vv_aret {v : Value} {rt : FieldType} (hr : M.2.2.2.1 = some rt) (hrt : (∃ n, rt = .object n) ∨ ∃ t, rt = .array t) (hv : v = .null ∨ ∃ a, v = .ref a) (dg : decode M.2.1 pc = .ok (.areturn, 1)) : vv_V l G M d pc lv [v] σ (.inl (some v), σ) :=
  ⟨⟨Nat.le_refl _, Nat.le_refl _⟩, fun p e9 R s m args below meth c H locs ls σ0 C h0 hR hS hl => vx_ret (W.aret C.1 C.2.1 (C.2.2.1.trans hr) hrt hv (fun t ht hW => ⟨_, rfl, rfl, by rw [ht]; exact hR.moved C.2.2.2.2.2.2.2.2.1.1 hW.alike, hS.F ht⟩) hS.2.2 dg C.2.2.2.1)⟩
theorem vv_Tout {C : String} {q : Nat} (hout : ∀ x ∈ tableOf M.2.2.2.2, covers x pc = false) : vv_T l G M d pc C q lv σ (.inr (C, q), σ) :=
  ⟨⟨Nat.le_refl _, Nat.le_refl _⟩, fun p e9 R s m args below meth c H locs ls σ0 ce rest C0 h0 hR hS hl hce hcv hcl => vx_out (by rw [C0.2.2.2.2.2.2.2.2.2.1]; exact hout) C0.2.2.2.1 hce hcv hcl (fun t ht hA => ⟨rfl, by rw [ht]; exact hR.moved C0.2.2.2.2.2.2.2.2.1.1 hA, hS.F ht⟩) hS.2.2 (Nat.le_refl _) (Nat.le_refl _)⟩
/-! calls -/
def vv_okd (M : vv_M) (n : Nat) : Prop := M.1.cls ≠ "java/lang/invoke/MethodHandle" ∧ M.1.cls ≠ "java/lang/invoke/VarHandle" ∧ (parseMethodDescriptor M.1.desc).map (fun d => d.parameters.length) = some n
def vv_okV (M : vv_M) (n : Nat) : Prop := M.2.2.2.2 = [] ∧ M.2.2.1 ≤ 45 ∧ Cond.instanceMethod M.1 ∈ lw_all ∧ Cond.selects M.1.cls M.1 M.1 ∈ lw_all ∧ Cond.initialized M.1.cls ∈ lw_all ∧ Cond.code M.1 M.2.1 M.2.2.1 M.2.2.2.1 ∈ lw_all ∧ vv_okd M n
def vv_okS (M : vv_M) (n : Nat) : Prop := M.2.2.2.2 = [] ∧ M.2.2.1 ≤ 45 ∧ Cond.static M.1 ∈ lw_all ∧ Cond.initialized M.1.cls ∈ lw_all ∧ Cond.code M.1 M.2.1 M.2.2.1 M.2.2.2.1 ∈ lw_all ∧ vv_okd M n
def vv_okI (M : vv_M) (n : Nat) : Prop := M.2.2.2.2 = [] ∧ M.2.2.1 ≤ 45 ∧ M.2.2.2.1 = none ∧ M.1.name = "<init>" ∧ Cond.instanceMethod M.1 ∈ lw_all ∧ Cond.initialized M.1.cls ∈ lw_all ∧ Cond.code M.1 M.2.1 M.2.2.1 M.2.2.2.1 ∈ lw_all ∧ vv_okd M n
theorem vv_ws0 {M : vv_M} (h : M.2.2.2.2 = []) : vv_ws M = ws_ M.1 M.2.1 M.2.2.1 M.2.2.2.1 := by unfold vv_ws; rw [h]
theorem vv_blind {av : List Value} : FrameBlind (vv_Pc G av σ) := fun a U g mk q => ⟨q.1, vv_K.moved (s := U) (U := U.calling g mk a) (State.WarmedH.refl U) q.2.1, vv_Rel.moved (s := U) (U := U.calling g mk a) q.2.1.1 (Vm.Alike.refl U.vm) q.2.2⟩
theorem vv_pre {s : State} {H : Heap} {av : List Value} (hK : vv_K G s) (hR : vv_Rel G s σ H) : ∀ U : State, U.heap = H → s.WarmedH U.vm → vv_Pc G av σ av.toArray U := fun U hU hW => ⟨rfl, hK.moved hW, by rw [hU]; exact hR.moved hK.1 hW.alike⟩
/-- behind a call that returned -/
theorem vv_cont {p : Program} {e9 : Env} {R : Room} {s : State} {m : MethodId} {args : Array Value} {below : List Frame} {meth : Method} {c : Code} {H : Heap} {locs : List Loc} {cells slots mc ms : Nat} {Q : State → Prop} {ls : Array Slot} {st0 : List Value} {v : Option Value} {E1 : vv_X} {a : Array Value} (hw : vv_wf G)
    (hr : vx_Run p l e9 R s m args below meth c H locs cells slots mc ms (F0 m pc ls st0) rest (vv_Qc G E1 a) (vv_XC G E1) (vv_A G)) (hS : va_S (vv_A G) s.heap H locs) (hv : E1.1 = .inl v)
    (kk : ∀ H1 locs1, vv_Rel G s E1.2 H1 → va_S (vv_A G) s.heap H1 locs1 → W p l e9 R s m args below meth c H1 locs1 (cells + mc) (slots + ms) Q (F0 m (pc + 3) ls (v.toList ++ rest))) : W p l e9 R s m args below meth c H locs cells slots Q (F0 m pc ls st0) := by
  intro T hT X
  rcases hr T hT X with ⟨v', st₀, t, T', L, h0, X', hL, e1, e2, ⟨v2, hv2, ho, hRel, hF⟩, st⟩ | ⟨q, st₀, t, T', L, E', ce, h0, X', hL, e1, e2, ⟨hx, -⟩, -⟩
  · cases ho
    have e3 : v' = v := by
      have := hv2.symm.trans hv
      cases this
      rfl
    subst e3
    obtain ⟨k1, k2, k3⟩ := vx_keep h0 e1 hS (fun _ _ h => h) (fun _ h => h) hL hF
    obtain ⟨t2, a1, b1⟩ := kk T'.heap (locs ++ L) (by rw [e1]; exact hRel.moved hw (by rw [← e2]; exact X'.warmed.alike.symm)) k3 T' rfl X'
    exact ⟨t2, st t2 a1, b1⟩
  · rw [hv] at hx
    cases hx
/-- behind a call that threw -/
theorem vv_contX {p : Program} {e9 : Env} {R : Room} {s : State} {m : MethodId} {args : Array Value} {below : List Frame} {meth : Method} {c : Code} {H : Heap} {locs : List Loc} {cells slots mc ms : Nat} {Q : State → Prop} {ls : Array Slot} {st0 : List Value} {C : String} {q : Nat} {E1 : vv_X} {a : Array Value} (hw : vv_wf G)
    (hr : vx_Run p l e9 R s m args below meth c H locs cells slots mc ms (F0 m pc ls st0) rest (vv_Qc G E1 a) (vv_XC G E1) (vv_A G)) (hS : va_S (vv_A G) s.heap H locs) (hv : E1.1 = .inr (C, q))
    (kk : ∀ H1 locs1 ce, vv_Rel G s E1.2 H1 → va_S (vv_A G) s.heap H1 locs1 → H1[q]? = some ce → ce.vm = .none → s.vm.findClass C = some ce.cls → vx_W p l e9 R s m args below meth c H1 locs1 (cells + mc) (slots + ms) Q (F0 m pc ls rest) q) : W p l e9 R s m args below meth c H locs cells slots Q (F0 m pc ls st0) := by
  intro T hT X
  rcases hr T hT X with ⟨v', st₀, t, T', L, h0, X', hL, e1, e2, ⟨v2, hv2, -⟩, st⟩ | ⟨q', st₀, t, T', L, E', ce, h0, X', hL, e1, e2, ⟨hx, hRel, hF⟩, hce, hcv, hcl, st⟩
  · rw [hv] at hv2
    cases hv2
  · rw [hv] at hx
    cases hx
    obtain ⟨k1, k2, k3⟩ := vx_keep h0 e1 hS (fun _ _ h => h) (fun _ h => h) hL hF
    obtain ⟨t2, a1, b1⟩ := kk T'.heap (locs ++ L) ce (by rw [e1]; exact hRel.moved hw (by rw [← e2]; exact X'.warmed.alike.symm)) k3 (by rw [e1]; exact hce) hcv hcl T' rfl X'
    exact ⟨t2, st.trans a1, b1⟩

theorem vv_callV {M1 : vv_M} {d1 n ix : Nat} {b : Nat} {As : List Value} {st0 : List Value} {E1 : vv_X} {v : Option Value} (hok : vv_okV M1 n) (hlk1 : Cond.methodLink M.1.cls ix M1.1 ∈ lw_all) (hM : vv_Met l G M1 d1 (Value.ref b :: As) σ E1) (hv : E1.1 = .inl v) (hd : d1 + 1 ≤ d) (hrecv : ∃ f fs ci T N, σ.1 b = some (f, .inr (ci, fs)) ∧ G.1[ci]? = some (M1.1.cls, T, N)) (hst : st0 = As.reverse ++ .ref b :: rest) (hn : As.length = n) (hr8 : (rest.map fun v => v.category).sum ≤ 8) (dg : decode M.2.1 pc = .ok (.invokevirtual ix, 3)) (k9 : vv_V l G M d (pc + 3) lv (v.toList ++ rest) E1.2 E) : vv_V l G M d pc lv st0 σ E := by
  subst hst
  refine ⟨⟨Nat.le_trans hM.1.1 k9.1.1, Nat.le_trans hM.1.2 k9.1.2⟩, fun p e9 R s m args below meth c H locs ls σ0 C0 h0 hR hS hl => ?_⟩
  obtain ⟨hx, hb, hr, hlk, hml, ho, hnme, hts, hK, htab, hRm, hz0⟩ := id C0
  obtain ⟨o1, o2, o3, o4, o5, o6, o7⟩ := hok
  obtain ⟨y1, cc1, nL1, r1, hh1⟩ := M1
  cases o1
  skip
  have b1 := k9.1.1
  have b2 := k9.1.2
  have b3 := hM.1.1
  have b4 := hM.1.2
  have hM := hM.2
  have hroom : (vv_rm d1 σ E1).frames + 1 ≤ R.frames ∧ 8 + (nL1 + 11) + (vv_rm d1 σ E1).locals ≤ R.locals := by
    rw [hRm]
    dsimp only at o2
    show d1 + 1 ≤ d ∧ 8 + (nL1 + 11) + 64 * d1 ≤ 64 * d
    omega
  have hfit : (σ.2.1 - σ0.2.1) + (E1.2.2.1 - σ.2.1) ≤ R.cells ∧ (σ.2.2 - σ0.2.2) + (E1.2.2.2 - σ.2.2) ≤ R.slots := by
    rw [hRm]
    show _ ≤ E.2.2.1 - σ0.2.1 ∧ _ ≤ E.2.2.2 - σ0.2.2
    omega
  have hrc : ∃ cellB : Cell, H[b]? = some cellB ∧ cellB.vm.isStatics = false ∧ s.vm.findClass y1.cls = some cellB.cls := by
    obtain ⟨f, fs, ci, T, N, h1, h2⟩ := hrecv
    exact va_recv hK.2.1 (hR.2.2.1 _ _ h1).Po (ci := ci) (q0 := 0) h2 rfl
  refine vv_cont hK.1 (vx_runV (As := As) (rest := rest) ⟨hx, hb, hml, ho, hts⟩ hM (cwV n hts (lw_V hlk1 o3 o4 o5 o6) rfl rfl rfl ⟨rfl, o7.1, o7.2.1, o7.2.2⟩ hroom) ⟨vv_blind, hrc, vv_pre hK hR⟩ rfl hn (hl.1.trans rfl) rfl (lv_room hr8) dg hfit) hS hv (fun H1 locs1 hR1 hS1 => ?_)
  have k := k9.2 p e9 R s m args below meth c H1 locs1 ls σ0 C0 ⟨Nat.le_trans h0.1 b3, Nat.le_trans h0.2 b4⟩ hR1 hS1 hl
  rw [show E1.2.2.1 - σ0.2.1 = σ.2.1 - σ0.2.1 + (E1.2.2.1 - σ.2.1) by omega, show E1.2.2.2 - σ0.2.2 = σ.2.2 - σ0.2.2 + (E1.2.2.2 - σ.2.2) by omega] at k
  exact k
theorem vv_callVX {M1 : vv_M} {d1 n ix : Nat} {b : Nat} {As : List Value} {st0 : List Value} {E1 : vv_X} {C : String} {q : Nat} (hok : vv_okV M1 n) (hlk1 : Cond.methodLink M.1.cls ix M1.1 ∈ lw_all) (hM : vv_Met l G M1 d1 (Value.ref b :: As) σ E1) (hv : E1.1 = .inr (C, q)) (hd : d1 + 1 ≤ d) (hrecv : ∃ f fs ci T N, σ.1 b = some (f, .inr (ci, fs)) ∧ G.1[ci]? = some (M1.1.cls, T, N)) (hst : st0 = As.reverse ++ .ref b :: rest) (hn : As.length = n) (hr8 : (rest.map fun v => v.category).sum ≤ 8) (dg : decode M.2.1 pc = .ok (.invokevirtual ix, 3)) (k9 : vv_T l G M d pc C q lv E1.2 E) : vv_V l G M d pc lv st0 σ E := by
  subst hst
  refine ⟨⟨Nat.le_trans hM.1.1 k9.1.1, Nat.le_trans hM.1.2 k9.1.2⟩, fun p e9 R s m args below meth c H locs ls σ0 C0 h0 hR hS hl => ?_⟩
  obtain ⟨hx, hb, hr, hlk, hml, ho, hnme, hts, hK, htab, hRm, hz0⟩ := id C0
  obtain ⟨o1, o2, o3, o4, o5, o6, o7⟩ := hok
  obtain ⟨y1, cc1, nL1, r1, hh1⟩ := M1
  cases o1
  skip
  have b1 := k9.1.1
  have b2 := k9.1.2
  have b3 := hM.1.1
  have b4 := hM.1.2
  have hM := hM.2
  have hroom : (vv_rm d1 σ E1).frames + 1 ≤ R.frames ∧ 8 + (nL1 + 11) + (vv_rm d1 σ E1).locals ≤ R.locals := by
    rw [hRm]
    dsimp only at o2
    show d1 + 1 ≤ d ∧ 8 + (nL1 + 11) + 64 * d1 ≤ 64 * d
    omega
  have hfit : (σ.2.1 - σ0.2.1) + (E1.2.2.1 - σ.2.1) ≤ R.cells ∧ (σ.2.2 - σ0.2.2) + (E1.2.2.2 - σ.2.2) ≤ R.slots := by
    rw [hRm]
    show _ ≤ E.2.2.1 - σ0.2.1 ∧ _ ≤ E.2.2.2 - σ0.2.2
    omega
  have hrc : ∃ cellB : Cell, H[b]? = some cellB ∧ cellB.vm.isStatics = false ∧ s.vm.findClass y1.cls = some cellB.cls := by
    obtain ⟨f, fs, ci, T, N, h1, h2⟩ := hrecv
    exact va_recv hK.2.1 (hR.2.2.1 _ _ h1).Po (ci := ci) (q0 := 0) h2 rfl
  refine vv_contX hK.1 (vx_runV (As := As) (rest := rest) ⟨hx, hb, hml, ho, hts⟩ hM (cwV n hts (lw_V hlk1 o3 o4 o5 o6) rfl rfl rfl ⟨rfl, o7.1, o7.2.1, o7.2.2⟩ hroom) ⟨vv_blind, hrc, vv_pre hK hR⟩ rfl hn (hl.1.trans rfl) rfl (lv_room hr8) dg hfit) hS hv (fun H1 locs1 ce hR1 hS1 hce hcv hcl => ?_)
  have k := k9.2 p e9 R s m args below meth c H1 locs1 ls σ0 ce rest C0 ⟨Nat.le_trans h0.1 b3, Nat.le_trans h0.2 b4⟩ hR1 hS1 hl hce hcv hcl
  rw [show E1.2.2.1 - σ0.2.1 = σ.2.1 - σ0.2.1 + (E1.2.2.1 - σ.2.1) by omega, show E1.2.2.2 - σ0.2.2 = σ.2.2 - σ0.2.2 + (E1.2.2.2 - σ.2.2) by omega] at k
  exact k
theorem vv_callS {M1 : vv_M} {d1 n ix : Nat} {As : List Value} {st0 : List Value} {E1 : vv_X} {v : Option Value} (hok : vv_okS M1 n) (hlk1 : Cond.methodLink M.1.cls ix M1.1 ∈ lw_all) (hM : vv_Met l G M1 d1 (As) σ E1) (hv : E1.1 = .inl v) (hd : d1 + 1 ≤ d) (hst : st0 = As.reverse ++ rest) (hn : As.length = n) (hr8 : (rest.map fun v => v.category).sum ≤ 8) (dg : decode M.2.1 pc = .ok (.invokestatic ix, 3)) (k9 : vv_V l G M d (pc + 3) lv (v.toList ++ rest) E1.2 E) : vv_V l G M d pc lv st0 σ E := by
  subst hst
  refine ⟨⟨Nat.le_trans hM.1.1 k9.1.1, Nat.le_trans hM.1.2 k9.1.2⟩, fun p e9 R s m args below meth c H locs ls σ0 C0 h0 hR hS hl => ?_⟩
  obtain ⟨hx, hb, hr, hlk, hml, ho, hnme, hts, hK, htab, hRm, hz0⟩ := id C0
  obtain ⟨o1, o2, o3, o4, o5, o6⟩ := hok
  obtain ⟨y1, cc1, nL1, r1, hh1⟩ := M1
  cases o1
  skip
  have b1 := k9.1.1
  have b2 := k9.1.2
  have b3 := hM.1.1
  have b4 := hM.1.2
  have hM := hM.2
  have hroom : (vv_rm d1 σ E1).frames + 1 ≤ R.frames ∧ 8 + (nL1 + 11) + (vv_rm d1 σ E1).locals ≤ R.locals := by
    rw [hRm]
    dsimp only at o2
    show d1 + 1 ≤ d ∧ 8 + (nL1 + 11) + 64 * d1 ≤ 64 * d
    omega
  have hfit : (σ.2.1 - σ0.2.1) + (E1.2.2.1 - σ.2.1) ≤ R.cells ∧ (σ.2.2 - σ0.2.2) + (E1.2.2.2 - σ.2.2) ≤ R.slots := by
    rw [hRm]
    show _ ≤ E.2.2.1 - σ0.2.1 ∧ _ ≤ E.2.2.2 - σ0.2.2
    omega
  refine vv_cont hK.1 (vx_runS (As := As) (rest := rest) ⟨hx, hb, hml, ho, hts⟩ hM (va_cwS n hts (lw_S hlk1 o3 o4 o5) rfl rfl rfl o6 hroom) ⟨vv_blind, vv_pre hK hR⟩ rfl hn (hl.1.trans rfl) rfl (lv_room hr8) dg hfit) hS hv (fun H1 locs1 hR1 hS1 => ?_)
  have k := k9.2 p e9 R s m args below meth c H1 locs1 ls σ0 C0 ⟨Nat.le_trans h0.1 b3, Nat.le_trans h0.2 b4⟩ hR1 hS1 hl
  rw [show E1.2.2.1 - σ0.2.1 = σ.2.1 - σ0.2.1 + (E1.2.2.1 - σ.2.1) by omega, show E1.2.2.2 - σ0.2.2 = σ.2.2 - σ0.2.2 + (E1.2.2.2 - σ.2.2) by omega] at k
  exact k
theorem vv_callSX {M1 : vv_M} {d1 n ix : Nat} {As : List Value} {st0 : List Value} {E1 : vv_X} {C : String} {q : Nat} (hok : vv_okS M1 n) (hlk1 : Cond.methodLink M.1.cls ix M1.1 ∈ lw_all) (hM : vv_Met l G M1 d1 (As) σ E1) (hv : E1.1 = .inr (C, q)) (hd : d1 + 1 ≤ d) (hst : st0 = As.reverse ++ rest) (hn : As.length = n) (hr8 : (rest.map fun v => v.category).sum ≤ 8) (dg : decode M.2.1 pc = .ok (.invokestatic ix, 3)) (k9 : vv_T l G M d pc C q lv E1.2 E) : vv_V l G M d pc lv st0 σ E := by
  subst hst
  refine ⟨⟨Nat.le_trans hM.1.1 k9.1.1, Nat.le_trans hM.1.2 k9.1.2⟩, fun p e9 R s m args below meth c H locs ls σ0 C0 h0 hR hS hl => ?_⟩
  obtain ⟨hx, hb, hr, hlk, hml, ho, hnme, hts, hK, htab, hRm, hz0⟩ := id C0
  obtain ⟨o1, o2, o3, o4, o5, o6⟩ := hok
  obtain ⟨y1, cc1, nL1, r1, hh1⟩ := M1
  cases o1
  skip
  have b1 := k9.1.1
  have b2 := k9.1.2
  have b3 := hM.1.1
  have b4 := hM.1.2
  have hM := hM.2
  have hroom : (vv_rm d1 σ E1).frames + 1 ≤ R.frames ∧ 8 + (nL1 + 11) + (vv_rm d1 σ E1).locals ≤ R.locals := by
    rw [hRm]
    dsimp only at o2
    show d1 + 1 ≤ d ∧ 8 + (nL1 + 11) + 64 * d1 ≤ 64 * d
    omega
  have hfit : (σ.2.1 - σ0.2.1) + (E1.2.2.1 - σ.2.1) ≤ R.cells ∧ (σ.2.2 - σ0.2.2) + (E1.2.2.2 - σ.2.2) ≤ R.slots := by
    rw [hRm]
    show _ ≤ E.2.2.1 - σ0.2.1 ∧ _ ≤ E.2.2.2 - σ0.2.2
    omega
  refine vv_contX hK.1 (vx_runS (As := As) (rest := rest) ⟨hx, hb, hml, ho, hts⟩ hM (va_cwS n hts (lw_S hlk1 o3 o4 o5) rfl rfl rfl o6 hroom) ⟨vv_blind, vv_pre hK hR⟩ rfl hn (hl.1.trans rfl) rfl (lv_room hr8) dg hfit) hS hv (fun H1 locs1 ce hR1 hS1 hce hcv hcl => ?_)
  have k := k9.2 p e9 R s m args below meth c H1 locs1 ls σ0 ce rest C0 ⟨Nat.le_trans h0.1 b3, Nat.le_trans h0.2 b4⟩ hR1 hS1 hl hce hcv hcl
  rw [show E1.2.2.1 - σ0.2.1 = σ.2.1 - σ0.2.1 + (E1.2.2.1 - σ.2.1) by omega, show E1.2.2.2 - σ0.2.2 = σ.2.2 - σ0.2.2 + (E1.2.2.2 - σ.2.2) by omega] at k
  exact k
theorem vv_callI {M1 : vv_M} {d1 n ix : Nat} {b : Nat} {As : List Value} {st0 : List Value} {E1 : vv_X} {v : Option Value} (hok : vv_okI M1 n) (hlk1 : Cond.methodLink M.1.cls ix M1.1 ∈ lw_all) (hM : vv_Met l G M1 d1 (Value.ref b :: As) σ E1) (hv : E1.1 = .inl v) (hd : d1 + 1 ≤ d) (hst : st0 = As.reverse ++ .ref b :: rest) (hn : As.length = n) (hr8 : (rest.map fun v => v.category).sum ≤ 8) (dg : decode M.2.1 pc = .ok (.invokespecial ix, 3)) (k9 : vv_V l G M d (pc + 3) lv (v.toList ++ rest) E1.2 E) : vv_V l G M d pc lv st0 σ E := by
  subst hst
  refine ⟨⟨Nat.le_trans hM.1.1 k9.1.1, Nat.le_trans hM.1.2 k9.1.2⟩, fun p e9 R s m args below meth c H locs ls σ0 C0 h0 hR hS hl => ?_⟩
  obtain ⟨hx, hb, hr, hlk, hml, ho, hnme, hts, hK, htab, hRm, hz0⟩ := id C0
  obtain ⟨o1, o2, o8, o3, o4, o5, o6, o7⟩ := hok
  obtain ⟨y1, cc1, nL1, r1, hh1⟩ := M1
  cases o1
  cases o8
  have b1 := k9.1.1
  have b2 := k9.1.2
  have b3 := hM.1.1
  have b4 := hM.1.2
  have hM := hM.2
  have hroom : (vv_rm d1 σ E1).frames + 1 ≤ R.frames ∧ 8 + (nL1 + 11) + (vv_rm d1 σ E1).locals ≤ R.locals := by
    rw [hRm]
    dsimp only at o2
    show d1 + 1 ≤ d ∧ 8 + (nL1 + 11) + 64 * d1 ≤ 64 * d
    omega
  have hfit : (σ.2.1 - σ0.2.1) + (E1.2.2.1 - σ.2.1) ≤ R.cells ∧ (σ.2.2 - σ0.2.2) + (E1.2.2.2 - σ.2.2) ≤ R.slots := by
    rw [hRm]
    show _ ≤ E.2.2.1 - σ0.2.1 ∧ _ ≤ E.2.2.2 - σ0.2.2
    omega
  refine vv_cont hK.1 (vx_runI (As := As) (rest := rest) ⟨hx, hb, hml, ho, hts⟩ hM (cwI n hts (lw_meth o6) rfl rfl rfl (hts _ o5) (hts _ hlk1) (hts _ o4) o3 o7 hroom) ⟨vv_blind, vv_pre hK hR⟩ rfl hn (hl.1.trans rfl) rfl (lv_room hr8) dg hfit) hS hv (fun H1 locs1 hR1 hS1 => ?_)
  have k := k9.2 p e9 R s m args below meth c H1 locs1 ls σ0 C0 ⟨Nat.le_trans h0.1 b3, Nat.le_trans h0.2 b4⟩ hR1 hS1 hl
  rw [show E1.2.2.1 - σ0.2.1 = σ.2.1 - σ0.2.1 + (E1.2.2.1 - σ.2.1) by omega, show E1.2.2.2 - σ0.2.2 = σ.2.2 - σ0.2.2 + (E1.2.2.2 - σ.2.2) by omega] at k
  exact k
theorem vv_callIX {M1 : vv_M} {d1 n ix : Nat} {b : Nat} {As : List Value} {st0 : List Value} {E1 : vv_X} {C : String} {q : Nat} (hok : vv_okI M1 n) (hlk1 : Cond.methodLink M.1.cls ix M1.1 ∈ lw_all) (hM : vv_Met l G M1 d1 (Value.ref b :: As) σ E1) (hv : E1.1 = .inr (C, q)) (hd : d1 + 1 ≤ d) (hst : st0 = As.reverse ++ .ref b :: rest) (hn : As.length = n) (hr8 : (rest.map fun v => v.category).sum ≤ 8) (dg : decode M.2.1 pc = .ok (.invokespecial ix, 3)) (k9 : vv_T l G M d pc C q lv E1.2 E) : vv_V l G M d pc lv st0 σ E := by
  subst hst
  refine ⟨⟨Nat.le_trans hM.1.1 k9.1.1, Nat.le_trans hM.1.2 k9.1.2⟩, fun p e9 R s m args below meth c H locs ls σ0 C0 h0 hR hS hl => ?_⟩
  obtain ⟨hx, hb, hr, hlk, hml, ho, hnme, hts, hK, htab, hRm, hz0⟩ := id C0
  obtain ⟨o1, o2, o8, o3, o4, o5, o6, o7⟩ := hok
  obtain ⟨y1, cc1, nL1, r1, hh1⟩ := M1
  cases o1
  cases o8
  have b1 := k9.1.1
  have b2 := k9.1.2
  have b3 := hM.1.1
  have b4 := hM.1.2
  have hM := hM.2
  have hroom : (vv_rm d1 σ E1).frames + 1 ≤ R.frames ∧ 8 + (nL1 + 11) + (vv_rm d1 σ E1).locals ≤ R.locals := by
    rw [hRm]
    dsimp only at o2
    show d1 + 1 ≤ d ∧ 8 + (nL1 + 11) + 64 * d1 ≤ 64 * d
    omega
  have hfit : (σ.2.1 - σ0.2.1) + (E1.2.2.1 - σ.2.1) ≤ R.cells ∧ (σ.2.2 - σ0.2.2) + (E1.2.2.2 - σ.2.2) ≤ R.slots := by
    rw [hRm]
    show _ ≤ E.2.2.1 - σ0.2.1 ∧ _ ≤ E.2.2.2 - σ0.2.2
    omega
  refine vv_contX hK.1 (vx_runI (As := As) (rest := rest) ⟨hx, hb, hml, ho, hts⟩ hM (cwI n hts (lw_meth o6) rfl rfl rfl (hts _ o5) (hts _ hlk1) (hts _ o4) o3 o7 hroom) ⟨vv_blind, vv_pre hK hR⟩ rfl hn (hl.1.trans rfl) rfl (lv_room hr8) dg hfit) hS hv (fun H1 locs1 ce hR1 hS1 hce hcv hcl => ?_)
  have k := k9.2 p e9 R s m args below meth c H1 locs1 ls σ0 ce rest C0 ⟨Nat.le_trans h0.1 b3, Nat.le_trans h0.2 b4⟩ hR1 hS1 hl hce hcv hcl
  rw [show E1.2.2.1 - σ0.2.1 = σ.2.1 - σ0.2.1 + (E1.2.2.1 - σ.2.1) by omega, show E1.2.2.2 - σ0.2.2 = σ.2.2 - σ0.2.2 + (E1.2.2.2 - σ.2.2) by omega] at k
  exact k
/-! the head of a method -/
theorem vv_head {n : Nat} {av : List Value} (hy : plainName M.1.cls = true) (hh : M.2.2.2.2 = []) (hn : (lg_sl av).length ≤ M.2.2.1) (hlv : lv_args 0 av = lv) (k : vv_V l G M n 0 lv [] σ E) : vv_Met l G M n av σ E := by
  obtain ⟨y1, cc1, nL1, r1, hh1⟩ := M
  cases hh
  refine ⟨k.1, vx_ofW (cc := cc1) (maxL := nL1) (ret := r1) hy rfl ?_⟩
  intro p e s m args below meth c s₁ B hml htab hv
  obtain ⟨rfl, hK, hR⟩ := hv
  have hts := atoms_spec (ws := ws_ y1 cc1 nL1 r1) B.pre
  have hts : ∀ w ∈ lw_all, w.before _ s = true := fun w h => hts w (List.mem_cons_of_mem _ h)
  rw [lg_entry_eq]
  have hl := lv_entry av hn
  rw [hlv] at hl
  have k2 := k.2 p e _ s m av.toArray below meth c s.heap [] _ σ ⟨B.exec, B.bytes, B.returns, B.notSynchronized, hml, findClass_of_methodNamed B.named, (name_of_methodNamed B.named B.method).1, hts, hK, (List.eq_nil_iff_forall_not_mem.mpr fun x hx => htab x hx), rfl, hR.2.1⟩ ⟨Nat.le_refl _, Nat.le_refl _⟩ hR va_S.rf hl
  rw [Nat.sub_self, Nat.sub_self] at k2
  exact k2
end VVR
