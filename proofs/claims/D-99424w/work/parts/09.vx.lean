/-! ===== more rows of V ===== -/
set_option maxRecDepth 100000
/-- tables' words that don't ride in lw_all, kept by warming -/
def vv_nwk : Cond → Bool
  | .fieldLinkNest .. => true
  | .methodLinkNest .. => true
  | .declares .. => true
  | .castable .. => true
  | .arrayOver .. => true
  | _ => false
def vv_nws (U : State) : Prop := ∀ w ∈ lw_tbl, vv_nwk w = true → va_Nw w U
theorem vv_nws.warm {s U : State} (hW : s.WarmedH U.vm) (h : vv_nws s) : vv_nws U := by
  intro w hw hk
  have h1 := h w hw hk
  cases w <;> first
    | (exact va_Nw.warmF hW h1)
    | (exact va_Nw.warmM hW h1)
    | (exact va_Nw.warmD hW h1)
    | (exact va_Nw.warmC hW h1)
    | (exact (Cond.arrayOver_setVmC (args := #[]) hW.alike _).trans h1)
    | (exact absurd hk (by simp [vv_nwk]))
/-- the interfaces' entries -/
def vv_fwl : List (String × MethodName × MethodName) := [
  ("java/util/ArrayList", ⟨"java/util/List", "add", "(Ljava/lang/Object;)Z"⟩, ⟨"java/util/ArrayList", "add", "(Ljava/lang/Object;)Z"⟩),
  ("java/util/ArrayList", ⟨"java/util/List", "size", "()I"⟩, ⟨"java/util/ArrayList", "size", "()I"⟩),
  ("java/util/ArrayList", ⟨"java/util/List", "remove", "(I)Ljava/lang/Object;"⟩, ⟨"java/util/ArrayList", "remove", "(I)Ljava/lang/Object;"⟩),
  ("java/util/ArrayList", ⟨"java/util/List", "get", "(I)Ljava/lang/Object;"⟩, ⟨"java/util/ArrayList", "get", "(I)Ljava/lang/Object;"⟩),
  ("java/util/ArrayList", ⟨"java/util/List", "isEmpty", "()Z"⟩, ⟨"java/util/ArrayList", "isEmpty", "()Z"⟩),
  ("java/util/ArrayList", ⟨"java/util/Collection", "toArray", "()[Ljava/lang/Object;"⟩, ⟨"java/util/ArrayList", "toArray", "()[Ljava/lang/Object;"⟩),
  ("LuckCrates$Chain", ⟨"LuckCrates$Form", "of", "([I)I"⟩, ⟨"LuckCrates$Chain", "of", "([I)I"⟩),
  ("LuckCrates$Not", ⟨"LuckCrates$Form", "of", "([I)I"⟩, ⟨"LuckCrates$Not", "of", "([I)I"⟩),
  ("LuckCrates$Number", ⟨"LuckCrates$Form", "of", "([I)I"⟩, ⟨"LuckCrates$Number", "of", "([I)I"⟩),
  ("LuckCrates$Value", ⟨"LuckCrates$Form", "of", "([I)I"⟩, ⟨"LuckCrates$Value", "of", "([I)I"⟩)]
/-- the claim's String constants: class, index, text -/
def vv_stat (G : vv_G) (C n d : String) (v : Value) : Prop := ∀ (U : State) (H : Heap), (∀ P ∈ G.2.2.2.2.2.2, P U H) → va_Z C n d v (vv_A G) U H
/-- what is asked of G: ad 0, 1: ArrayList's two empty arrays; 2: the Integer cache; 3, 4: the class objects of Object[] and ArrayList; 10 ..: the String constants; 100 + k: the cached Integer k - 128 -/
def vv_gX (G : vv_G) (ad : Nat → Nat) : Prop := vv_gok G ∧ (∀ U, vv_K G U → vv_nws U) ∧ (∀ U, vv_K G U → ∀ q ∈ vv_fwl, va_Fw q.1 q.2.1 q.2.2 U) ∧
  (∀ U, vv_K G U → va_Mi "[Ljava/lang/Object;" (ad 3) U ∧ va_Mi "java/util/ArrayList" (ad 4) U ∧ va_Dc U) ∧ ad 3 ≠ ad 4 ∧ ad 0 ≠ ad 1 ∧
  vv_stat G "java/util/ArrayList" "DEFAULTCAPACITY_EMPTY_ELEMENTDATA" "[Ljava/lang/Object;" (.ref (ad 0)) ∧ vv_stat G "java/util/ArrayList" "EMPTY_ELEMENTDATA" "[Ljava/lang/Object;" (.ref (ad 1)) ∧
  vv_stat G "java/lang/Integer$IntegerCache" "cache" "[Ljava/lang/Integer;" (.ref (ad 2)) ∧ vv_stat G "java/lang/Integer$IntegerCache" "high" "I" (.int 127) ∧ vv_stat G "java/lang/String" "COMPACT_STRINGS" "Z" (.int 1)
/-- the two statics of Throwable -/
def vv_thr (G : vv_G) : Prop := ∀ (U : State) (H : Heap), (∀ P ∈ G.2.2.2.2.2.2, P U H) → vx_Zq Bundle.tN "UNASSIGNED_STACK" Bundle.steD (vv_A G) U H ∧ vx_Zq Bundle.tN "SUPPRESSED_SENTINEL" Bundle.listD (vv_A G) U H
theorem vx_L.kept9 {C n d : String} {A : Nat → Prop} {U : State} {H H1 : Heap} (h : vx_L C n d A U H) (hq : ∀ a : Nat, ¬ A a → H1[a]? = H[a]?) : vx_L C n d A U H1 := by
  obtain ⟨c, k, i, f, a, cell, h1, h2, h3, h4, h5, h6, h7, h8, h9, h10⟩ := h
  exact ⟨c, k, i, f, a, cell, h1, h2, h3, h4, by rw [hq a h10]; exact h5, h6, h7, h8, h9, h10⟩
section VVX
variable {l : Launch} {G : vv_G} {M : vv_M} {d pc : Nat} {lv lv' : List (Nat × Value)} {rest : List Value} {σ : vv_S} {E : vv_X}
theorem vv_Zback {s : State} {H : Heap} {locs : List Loc} {C n dd : String} {v : Value} (hz : G.2.2.2.2.1 ≤ s.heap.size) (hS : va_S (vv_A G) s.heap H locs) (h : va_Z C n dd v (vv_A G) s H) : va_Z C n dd v (vv_A G) s s.heap := by
  obtain ⟨cf, kf, fi, f, a, cell, h1, h2, h3, h4, h5, h6, h7, h8⟩ := h
  have ha : a < s.heap.size := Nat.lt_of_lt_of_le (Nat.not_le.mp h8) hz
  exact ⟨cf, kf, fi, f, a, cell, h1, h2, h3, h4, by rw [← hS.2.1 a ha h8]; exact h5, h6, h7, h8⟩
theorem vv_gets {ix : Nat} {C n dd : String} {v : Value} (hz : vv_stat G C n dd v) (hlk : Cond.fieldLink M.1.cls ix C n dd ∈ lw_all) (dg : decode M.2.1 pc = .ok (.getstatic ix, 3)) (k9 : vv_V l G M d (pc + 3) lv (v :: rest) σ E) : vv_V l G M d pc lv rest σ E :=
  ⟨k9.1, fun p e9 R s m args below meth c H locs ls σ0 C0 h0 hR hS hl => va_gets C0.1 C0.2.1 (vv_Zback C0.2.2.2.2.2.2.2.2.2.2.2 hS (hz s H hR.2.2.2)) hS C0.2.2.2.2.2.1 (C0.2.2.2.2.2.2.2.1 _ hlk) (fun _ h => h) dg (k9.2 p e9 R s m args below meth c H locs ls σ0 C0 h0 hR hS hl)⟩
theorem vv_lds {ix q : Nat} {tx : String} (hz : ∀ U, vv_K G U → vk_R M.1.cls ix tx q U) (dg : decode M.2.1 pc = .ok (.ldc ix, 2)) (k9 : vv_V l G M d (pc + 2) lv (.ref q :: rest) σ E) : vv_V l G M d pc lv rest σ E :=
  vv_lift (fun hx hb ho hts hK hR hl kk => va_ldcS hx hb ho (hz _ hK) dg (kk _ hl)) k9
theorem vv_ldm {ix mi : Nat} {C : String} (hz : ∀ U, vv_K G U → va_Mi C mi U) (hlk : Cond.classLink M.1.cls ix C ∈ lw_all) (dg : decode M.2.1 pc = .ok (.ldc ix, 2)) (k9 : vv_V l G M d (pc + 2) lv (.ref mi :: rest) σ E) : vv_V l G M d pc lv rest σ E :=
  vv_lift (fun hx hb ho hts hK hR hl kk => va_ldcM hx hb ho (hts _ hlk) (hz _ hK) dg (kk _ hl)) k9
/-- an entry's class by name -/
def vv_is (G : vv_G) (nm : String) (e : vv_E) : Prop := match e.2 with
  | .inl x => ("[" ++ x.1.toString) = nm
  | .inr o => ∃ T N, G.1[o.1]? = some (nm, T, N)
theorem vv_is.recv {s : State} {H : Heap} {nm : String} {e : vv_E} {a : Nat} (h : vv_is G nm e) (hK : vv_K G s) (ha : vv_at G a e H) : ∃ cell : Cell, H[a]? = some cell ∧ cell.vm.isStatics = false ∧ s.vm.findClass nm = some cell.cls := by
  obtain ⟨b, e⟩ := e
  cases e with
  | inl x =>
    refine ⟨_, ha.2.2, by obtain ⟨n, f | f | f | f | f⟩ := x.2 <;> rfl, ?_⟩
    have h1 := (hK.2.2.1 _ ha.2.1).2
    have h2 : s.vm.findClass ("[" ++ x.1.toString) = some (G.2.2.1 x.1) := by
      generalize x.1 = ty at h1 ⊢
      cases ty with
      | object C => obtain ⟨_, _, _, _, _, h4⟩ := h1; exact h4
      | _ => exact h1
    have h3 : ("[" ++ x.1.toString) = nm := h
    rw [← h3, h2]
    obtain ⟨n, f | f | f | f | f⟩ := x.2 <;> rfl
  | inr o =>
    obtain ⟨T, N, h⟩ := h
    exact va_recv hK.2.1 (vv_at.Po ha) (ci := o.1) (q0 := 0) h rfl
/-- an entry may stand where E is asked for -/
def vv_any (G : vv_G) (E : String) (e : vv_E) : Prop := ∀ (U : State) (H : Heap) (a : Nat), vv_K G U → vv_at G a e H → va_Any E U H a
theorem vv_any.of {nm E : String} {e : vv_E} (h : vv_is G nm e) (hc : ∀ U, vv_K G U → va_Nw (.castable nm E) U) : vv_any G E e := by
  intro U H a hK ha
  obtain ⟨cell, h1, h2, h3⟩ := h.recv hK ha
  obtain ⟨k, hk, -⟩ := Vm.findClass_spec h3
  obtain ⟨c0, t0, f1, f2, f3⟩ := Cond.castable_spec (va_Nw.use (A := #[]) rfl (hc U hK))
  refine ⟨cell, h1, h2, ⟨k, hk⟩, fun comp hcomp => ?_⟩
  cases f1.symm.trans h3
  cases f2.symm.trans hcomp
  exact f3
theorem vv_any.self {nm : String} {e : vv_E} (h : vv_is G nm e) : vv_any G nm e := by
  intro U H a hK ha
  obtain ⟨cell, h1, h2, h3⟩ := h.recv hK ha
  obtain ⟨k, hk, -⟩ := Vm.findClass_spec h3
  refine ⟨cell, h1, h2, ⟨k, hk⟩, fun comp hcomp => ?_⟩
  cases h3.symm.trans hcomp
  exact va_asg _ _
theorem vv_cast {a ix : Nat} {C nm : String} {e : vv_E} (he : σ.1 a = some e) (his : vv_is G C e) (hlk : Cond.classLink M.1.cls ix nm ∈ lw_all) (hc : C = nm ∨ ∀ U, vv_K G U → va_Nw (.castable C nm) U) (dg : decode M.2.1 pc = .ok (.checkcast ix, 3)) (k9 : vv_V l G M d (pc + 3) lv (.ref a :: rest) σ E) : vv_V l G M d pc lv (.ref a :: rest) σ E := by
  refine vv_lift (fun hx hb ho hts hK hR hl kk => ?_) k9
  obtain ⟨cell, h1, h2, h3⟩ := his.recv hK (hR.2.2.1 _ _ he)
  rcases hc with rfl | hc
  · intro T hT X
    obtain ⟨vm', X', st⟩ := X.checkcastYes hx ho (hts _ hlk) (by rw [hT]; exact h1) h2 h3 (va_asg _ _) (g := F0 _ pc _ (.ref a :: rest)) rfl rfl (by rw [hb]; exact dg)
    obtain ⟨t, a1, b1⟩ := kk _ hl (T.setVm vm') hT X'
    exact ⟨t, st t a1, b1⟩
  · exact va_castY hx hb ho (hts _ hlk) (hc _ hK) ⟨cell, h1, h2, h3⟩ dg (kk _ hl)
theorem vv_getc {a ix mi : Nat} {C : String} {e : vv_E} (he : σ.1 a = some e) (his : vv_is G C e) (hX : ∀ U, vv_K G U → va_Mi C mi U ∧ va_Dc U) (hlk : Cond.methodLink M.1.cls ix ⟨"java/lang/Object", "getClass", "()Ljava/lang/Class;"⟩ ∈ lw_all) (hse : Cond.selects C ⟨"java/lang/Object", "getClass", "()Ljava/lang/Class;"⟩ ⟨"java/lang/Object", "getClass", "()Ljava/lang/Class;"⟩ ∈ lw_all) (hin : Cond.instanceMethod ⟨"java/lang/Object", "getClass", "()Ljava/lang/Class;"⟩ ∈ lw_all) (hna : Cond.native ⟨"java/lang/Object", "getClass", "()Ljava/lang/Class;"⟩ ∈ lw_all) (hd : 1 ≤ d) (hr8 : (rest.map fun v => v.category).sum ≤ 8) (dg : decode M.2.1 pc = .ok (.invokevirtual ix, 3)) (k9 : vv_V l G M d (pc + 3) lv (.ref mi :: rest) σ E) : vv_V l G M d pc lv (.ref a :: rest) σ E := by
  refine ⟨k9.1, fun p e9 R s m args below meth c H locs ls σ0 C0 h0 hR hS hl => ?_⟩
  obtain ⟨hx, hb, hr, hlk9, hml, ho, hnme, hts, hK, htab, hRm, hz0⟩ := id C0
  refine va_getC hx hb (hml.trans hl.1.symm) ho (hts _ hlk) (va_Dc.use (hX s hK).2) (hts _ hse) (hts _ hin) (hts _ hna) (hX s hK).1 (his.recv hK (hR.2.2.1 _ _ he)) (by rw [hRm]; exact hd) (by rw [hRm]; show _ ≤ 64 * d; omega) dg (k9.2 p e9 R s m args below meth c H locs ls σ0 C0 h0 hR hS hl)
/-! references in arrays -/
theorem vv_aast {a n v : Nat} {T : String} {g : Nat → Option Nat} {i : Int32} {ev : vv_E} (he : σ.1 a = some (true, .inl (.object T, n, .inr (.inr (.inr (.inr g)))))) (hv : σ.1 v = some ev) (hany : vv_any G T ev) (hin : vp_in i n) (dg : decode M.2.1 pc = .ok (.aastore, 1)) (k9 : vv_V l G M d (pc + 1) lv rest (vv_up σ.1 a (true, .inl (.object T, n, .inr (.inr (.inr (.inr (va_up g i.toNatClampNeg (some v))))))), σ.2) E) : vv_V l G M d pc lv (.ref v :: .int i :: .ref a :: rest) σ E := by
  refine ⟨k9.1, fun p e9 R s m args below meth c H locs ls σ0 C h0 hR hS hl => ?_⟩
  have hK := C.2.2.2.2.2.2.2.2.1
  have ha := hR.2.2.1 a _ he
  have hlt : i.toNatClampNeg < n := Nat.not_le.mp fun q => hin (Or.inr q)
  have h0' : ¬ i < 0 := fun q => hin (Or.inl q)
  obtain ⟨cellV, g1, g3, ⟨kC, hkC⟩, hasg⟩ := hany s H v hK (hR.2.2.1 v _ hv)
  obtain ⟨kA, comp, k1, k2, k3, -⟩ := (hK.2.2.1 _ ha.2.1).2
  obtain ⟨kE, hkE, -⟩ := Vm.findClass_spec k3
  refine W.aast C.1 C.2.1 ha.2.2 (fun q h => by cases h) (fun h => by cases h) k1 k2 rfl hkE ⟨h0', by show _ < (arrV _ _ _).slots.size; rw [arrV_size]; exact hlt⟩ g1 (fun q h => by rw [h] at g3; cases g3) hkC (hasg _ k3) rfl rfl dg fun H1 e z oq => ?_
  refine k9.2 p e9 R s m args below meth c H1 _ ls σ0 C h0 (hR.put hK.1 ⟨ha.1, ha.2.1, ?_⟩ (ha.1 rfl) z oq) (hS.put z oq (ha.1 rfl)) hl
  show H1[a]? = some (vp_cell _ _)
  rw [e]
  rw [vp_cell_q, vp_cell_q, arrV_store]
  congr 2
  funext q
  by_cases hq : q = i.toNatClampNeg
  · subst hq
    simp [updV, va_up, va_rf]
  · simp [updV, va_up, hq]
theorem vv_aastN {a n : Nat} {T : String} {g : Nat → Option Nat} {i : Int32} (he : σ.1 a = some (true, .inl (.object T, n, .inr (.inr (.inr (.inr g)))))) (hin : vp_in i n) (dg : decode M.2.1 pc = .ok (.aastore, 1)) (k9 : vv_V l G M d (pc + 1) lv rest (vv_up σ.1 a (true, .inl (.object T, n, .inr (.inr (.inr (.inr (va_up g i.toNatClampNeg none)))))), σ.2) E) : vv_V l G M d pc lv (.null :: .int i :: .ref a :: rest) σ E := by
  refine ⟨k9.1, fun p e9 R s m args below meth c H locs ls σ0 C h0 hR hS hl => ?_⟩
  have hK := C.2.2.2.2.2.2.2.2.1
  have ha := hR.2.2.1 a _ he
  refine va_WaastN (C := T) C.1 C.2.1 ha.2.2 ((hK.2.2.1 _ ha.2.1).1 n (fun j => va_rf (g j))) (fun h => by cases h) (by show ¬ (i < 0 ∨ (arrV _ _ _).slots.size ≤ _); rw [arrV_size]; exact hin) rfl rfl dg fun H1 e z oq => ?_
  refine k9.2 p e9 R s m args below meth c H1 _ ls σ0 C h0 (hR.put hK.1 ⟨ha.1, ha.2.1, ?_⟩ (ha.1 rfl) z oq) (hS.put z oq (ha.1 rfl)) hl
  show H1[a]? = some (vp_cell _ _)
  rw [e]
  rw [vp_cell_q, vp_cell_q, arrV_store]
  congr 2
  funext q
  by_cases hq : q = i.toNatClampNeg
  · subst hq
    simp [updV, va_up, va_rf]
  · simp [updV, va_up, hq]
theorem vv_newq {ix : Nat} {T : String} {n : Int32} {N : Nat} (hT : FieldType.object T ∈ G.2.2.2.1) (hlk : Cond.classLink M.1.cls ix T ∈ lw_all) (hov : ∀ U, vv_K G U → va_Nw (.arrayOver (.object T)) U) (hn : ¬ n < 0) (hN : n.toNatClampNeg = N) (hby : N * 4 ≤ 536870912) (dg : decode M.2.1 pc = .ok (.anewarray ix, 3)) (k9 : vv_V l G M d (pc + 3) lv (.ref σ.2.1 :: rest) (vv_up σ.1 σ.2.1 (true, .inl (.object T, N, .inr (.inr (.inr (.inr (fun _ => none)))))), σ.2.1 + 1, σ.2.2 + N) E) : vv_V l G M d pc lv (.int n :: rest) σ E := by
  subst hN
  refine ⟨⟨Nat.le_trans (Nat.le_succ _) k9.1.1, Nat.le_trans (Nat.le_add_right _ _) k9.1.2⟩, fun p e9 R s m args below meth c H locs ls σ0 C0 h0 hR hS hl => ?_⟩
  obtain ⟨hx, hb, hr, hlk9, hml, ho, hnme, hts, hK, htab, hRm, hz0⟩ := id C0
  have b1 := k9.1.1
  have b2 := k9.1.2
  dsimp only at b1 b2
  refine W.anew hx hb ho (hts _ hlk) (hov s hK) rfl dg rfl hn hby (by rw [hRm]; show _ ≤ E.2.2.1 - σ0.2.1; omega) (by rw [hRm]; show _ ≤ E.2.2.2 - σ0.2.2; omega) fun cA kA comp f1 f2 f3 f4 => ?_
  have hca : G.2.2.1 (.object T) = cA := by
    obtain ⟨_, _, _, _, _, h4⟩ := (hK.2.2.1 _ hT).2
    exact Option.some.inj (h4.symm.trans f1)
  generalize hH1 : H.push ({ cls := cA, slots := Array.replicate n.toNatClampNeg .null, vm := .none } : Cell) = H1
  have z1 : H1.size = H.size + 1 := by rw [← hH1, Array.size_push]
  have e1 : H1[H.size]? = some (arrV cA n.toNatClampNeg (fun _ => .null)) := by rw [← hH1, Array.getElem?_push_size, ← arrV_new]
  have o1 : ∀ q : Nat, q < H.size → H1[q]? = H[q]? := fun q hq => by rw [← hH1, Array.getElem?_push, if_neg (Nat.ne_of_lt hq)]
  have k := k9.2 p e9 R s m args below meth c H1 locs ls σ0 C0 ⟨by show σ0.2.1 ≤ σ.2.1 + 1; omega, by show σ0.2.2 ≤ σ.2.2 + n.toNatClampNeg; omega⟩ (hR.push hK.1 ⟨fun _ => by show G.2.2.2.2.1 ≤ σ.2.1; rw [← hR.1]; exact hR.2.1, ⟨hT, by rw [hca, ← hR.1]; exact e1⟩⟩ z1 o1) ⟨Nat.le_trans hS.1 (by rw [z1]; omega), fun q h1 h2 => (o1 q (Nat.lt_of_lt_of_le h1 hS.1)).trans (hS.2.1 q h1 h2), hS.2.2⟩ hl
  dsimp only at k
  rw [show σ.2.1 + 1 - σ0.2.1 = σ.2.1 - σ0.2.1 + 1 by omega, show σ.2.2 + n.toNatClampNeg - σ0.2.2 = σ.2.2 - σ0.2.2 + n.toNatClampNeg by omega] at k
  rw [hR.1]
  exact k
theorem vv_objinit {a ix : Nat} (hlk : Cond.methodLink M.1.cls ix Lib.objectInit ∈ lw_all) (hin : Cond.instanceMethod Lib.objectInit ∈ lw_all) (hco : Cond.code Lib.objectInit ⟨#[0xb1]⟩ 1 none ∈ lw_all) (hd : 1 ≤ d) (hr8 : (rest.map fun v => v.category).sum ≤ 8) (dg : decode M.2.1 pc = .ok (.invokespecial ix, 3)) (k9 : vv_V l G M d (pc + 3) lv rest σ E) : vv_V l G M d pc lv (.ref a :: rest) σ E := by
  refine ⟨k9.1, fun p e9 R s m args below meth c H locs ls σ0 C0 h0 hR hS hl => ?_⟩
  obtain ⟨hx, hb, hr, hlk9, hml, ho, hnme, hts, hK, htab, hRm, hz0⟩ := id C0
  exact W.objInit hx hb ho (hts _ hlk) (hts _ hin) (hts _ hco) rfl (by rw [hml]; exact hl.1) rfl dg (by rw [hRm]; exact hd) (by rw [hRm]; show 2 * 0 + _ + 12 ≤ 64 * d; omega) (k9.2 p e9 R s m args below meth c H locs ls σ0 C0 h0 hR hS hl)
/-! throws -/
theorem vv_throw0 {cls : String} {names : List String} {ik ic : Nat} (hfl : l.stackTraces = false) (hG : vv_thr G) (hcls : Bundle.fit cls = true) (hnames : ∀ n ∈ names, Bundle.fit n = true) (hk : Cond.classLink M.1.cls ik cls ∈ lw_all) (hini : Cond.initialized cls ∈ lw_all) (hat : ∀ (s : State) (args : Array Value), vv_K G s → (∀ w ∈ lw_all, w.before args s = true) → ∀ w ∈ vx_at0 M.1.cls ic cls names, w.before args s = true)
    (hgood : ∀ w ∈ Cond.classLink M.1.cls ik cls :: Cond.initialized cls :: vx_at0 M.1.cls ic cls names, vx_ot w = true)
    (d0 : decode M.2.1 pc = .ok (.new ik, 3)) (d3 : decode M.2.1 (pc + 3) = .ok (.dup, 1)) (d4 : decode M.2.1 (pc + 4) = .ok (.invokespecial ic, 3)) (d7 : decode M.2.1 (pc + 7) = .ok (.athrow, 1)) (hh : M.2.2.2.2 = []) (hd : names.length + 4 ≤ d) (hr8 : (rest.map fun v => v.category).sum ≤ 8) (hn3 : names.length ≤ 6) :
    vv_V l G M d pc lv rest σ (.inr (cls, σ.2.1), (σ.1, σ.2.1 + 1, σ.2.2 + 6)) := by
  refine ⟨⟨Nat.le_succ _, Nat.le_add_right _ _⟩, fun p e9 R s m args below meth c H locs ls σ0 C0 h0 hR hS hl => ?_⟩
  obtain ⟨hx, hb, hr, hlk9, hml, ho, hnme, hts, hK, htab, hRm, hz0⟩ := id C0
  have back : ∀ {C n dd : String}, vx_Zq C n dd (vv_A G) s H → vx_Zq C n dd (vv_A G) s s.heap := by
    intro C n dd h
    have g : ∀ a : Nat, ¬ vv_A G a → s.heap[a]? = H[a]? := fun a ha => (hS.2.1 a (Nat.lt_of_lt_of_le (Nat.not_le.mp ha) hz0) ha).symm
    refine ⟨?_, ?_⟩
    · rcases h.1 with h | ⟨t, h⟩
      · exact Or.inl (vv_Zback hz0 hS h)
      · exact Or.inr ⟨t, vv_Zback hz0 hS h⟩
    · exact h.2.kept9 g
  refine vx_throw0 hx hb hfl ho hcls hnames (hts _ hk) (hts _ hini) (hat s args hK hts) hgood (back (hG s H hR.2.2.2).1) (back (hG s H hR.2.2.2).2) hS (hl.1.trans hml.symm) d0 d3 d4 d7 (fun x hx => by rw [htab, hh] at hx; cases hx) (by rw [hRm]; show names.length + 3 < d; omega) (by rw [hRm]; show _ ≤ 64 * d; omega) (by rw [hRm]; show _ ≤ σ.2.1 + 1 - σ0.2.1; omega) (by rw [hRm]; show _ ≤ σ.2.2 + 6 - σ0.2.2; omega) hlk9 (fun t ht z oq => ?_) hS.2.2 (by show _ ≤ σ.2.1 + 1 - σ0.2.1; omega) (by show _ ≤ σ.2.2 + 6 - σ0.2.2; omega)
  refine ⟨by rw [hR.1], ⟨by rw [z, hR.1], by rw [z]; exact Nat.le_succ_of_le hR.2.1, fun a e ha => (hR.2.2.1 a e ha).kept (oq a (hR.2.2.1 a e ha).lt), fun P hP => hK.1.2 P hP s t H t.heap ht (fun a ha => oq a (Nat.lt_of_lt_of_le ha hR.2.1)) (hR.2.2.2 P hP)⟩, ⟨by rw [z]; exact Nat.le_succ_of_le hS.1, fun q h1 h2 => (oq q (Nat.lt_of_lt_of_le h1 hS.1)).trans (hS.2.1 q h1 h2)⟩⟩
theorem vv_Tcatch {C nm : String} {q hpc : Nat} (pre : List ExceptionTableEntry) (x : ExceptionTableEntry) (suf : List ExceptionTableEntry) (hsplit : tableOf M.2.2.2.2 = pre ++ x :: suf) (hpass : ∀ z ∈ pre, covers z pc = false ∨ (z.catchType ≠ 0 ∧ ∃ n2 : String, Cond.classLink M.1.cls z.catchType n2 ∈ lw_all ∧ ∀ U, vv_K G U → va_Nc C n2 U)) (hx : covers x pc = true) (h0 : x.catchType ≠ 0) (hlk : Cond.classLink M.1.cls x.catchType nm ∈ lw_all) (hcast : ∀ U, vv_K G U → va_Nw (.castable C nm) U) (hpc9 : x.handlerPc = hpc) (k9 : vv_V l G M d hpc lv [.ref q] σ E) : vv_T l G M d pc C q lv σ E := by
  subst hpc9
  refine ⟨k9.1, fun p e9 R s m args below meth c H locs ls σ0 ce rest C0 h0' hR hS hl hce hcv hcl => ?_⟩
  obtain ⟨hx9, hb, hr, hlk9, hml, ho, hnme, hts, hK, htab, hRm, hz0⟩ := id C0
  exact vx_catch ho pre x suf (htab.trans hsplit) (fun z hz => (hpass z hz).elim Or.inl (fun ⟨h1, n2, h2, h3⟩ => Or.inr ⟨h1, n2, hts _ h2, h3 s hK⟩)) hx h0 (hts _ hlk) (va_Nw.use rfl (hcast s hK)) hce hcv hcl (k9.2 p e9 R s m args below meth c H locs ls σ0 C0 h0' hR hS hl)
theorem vv_athrow {C : String} {q : Nat} {e : vv_E} (he : σ.1 q = some e) (his : vv_is G C e) (dg : decode M.2.1 pc = .ok (.athrow, 1)) (k9 : vv_T l G M d pc C q lv σ E) : vv_V l G M d pc lv (.ref q :: rest) σ E := by
  refine ⟨k9.1, fun p e9 R s m args below meth c H locs ls σ0 C0 h0 hR hS hl => ?_⟩
  obtain ⟨hx, hb, hr, hlk9, hml, ho, hnme, hts, hK, htab, hRm, hz0⟩ := id C0
  obtain ⟨cell, h1, h2, h3⟩ := his.recv hK (hR.2.2.1 _ _ he)
  have hv : cell.vm = .none := by
    have ha := hR.2.2.1 _ _ he
    obtain ⟨b, e⟩ := e
    cases e with
    | inl x =>
      have h4 := Option.some.inj (h1.symm.trans ha.2.2)
      rw [h4]
      obtain ⟨n, f | f | f | f | f⟩ := x.2 <;> rfl
    | inr o =>
      obtain ⟨r, g1, cell', g2, g3, g4, -⟩ := ha.2
      cases Option.some.inj (h1.symm.trans g2)
      exact g4
  exact vx_athrow hx hb dg (k9.2 p e9 R s m args below meth c H locs ls σ0 cell rest C0 h0 hR hS hl h1 hv h3)

def vv_okF (M : vv_M) (n : Nat) : Prop := M.2.2.2.2 = [] ∧ M.2.2.1 ≤ 45 ∧ Cond.instanceMethod M.1 ∈ lw_all ∧ Cond.initialized M.1.cls ∈ lw_all ∧ Cond.code M.1 M.2.1 M.2.2.1 M.2.2.2.1 ∈ lw_all
theorem vv_cont5 {p : Program} {e9 : Env} {R : Room} {s : State} {m : MethodId} {args : Array Value} {below : List Frame} {meth : Method} {c : Code} {H : Heap} {locs : List Loc} {cells slots mc ms : Nat} {Q : State → Prop} {ls : Array Slot} {st0 : List Value} {v : Option Value} {E1 : vv_X} {a : Array Value} (hw : vv_wf G)
    (hr : vx_Run5 p l e9 R s m args below meth c H locs cells slots mc ms (F0 m pc ls st0) rest (vv_Qc G E1 a) (vv_XC G E1) (vv_A G)) (hS : va_S (vv_A G) s.heap H locs) (hv : E1.1 = .inl v)
    (kk : ∀ H1 locs1, vv_Rel G s E1.2 H1 → va_S (vv_A G) s.heap H1 locs1 → W p l e9 R s m args below meth c H1 locs1 (cells + mc) (slots + ms) Q (F0 m (pc + 5) ls (v.toList ++ rest))) : W p l e9 R s m args below meth c H locs cells slots Q (F0 m pc ls st0) := by
  intro T hT X
  rcases hr T hT X with ⟨v', st₀, t, T', L, h0, X', hL, e1, e2, ⟨v2, hv2, ho, hRel, hF⟩, st⟩ | ⟨q, st₀, t, T', L, E', ce, h0, X', hL, e1, e2, ⟨hx, -⟩, -⟩
  · cases ho
    have e3 : v' = v := by
      have := hv2.symm.trans hv
      cases this
      rfl
    subst e3
    obtain ⟨k1, k2, k3⟩ := vx_keep h0 e1 hS (fun _ _ h => h) (fun _ h => h) hL hF
    obtain ⟨t2, a1, b1⟩ := kk T'.heap (locs ++ L) (by rw [e1]; exact hRel.moved hw (by rw [← e2]; exact X'.warmed.alike.symm)) k3 T' rfl X'
    exact ⟨t2, st t2 a1, b1⟩
  · rw [hv] at hx
    cases hx
theorem vv_callVN {M1 : vv_M} {d1 n ix : Nat} {b : Nat} {host : String} {As : List Value} {st0 : List Value} {E1 : vv_X} {v : Option Value} (hok : vv_okV M1 n) (hlk1 : ∀ U, vv_K G U → va_Nw (.methodLinkNest M.1.cls ix M1.1 host) U) (hM : vv_Met l G M1 d1 (Value.ref b :: As) σ E1) (hv : E1.1 = .inl v) (hd : d1 + 1 ≤ d) (hrecv : ∃ f fs ci T N, σ.1 b = some (f, .inr (ci, fs)) ∧ G.1[ci]? = some (M1.1.cls, T, N)) (hst : st0 = As.reverse ++ .ref b :: rest) (hn : As.length = n) (hr8 : (rest.map fun v => v.category).sum ≤ 8) (dg : decode M.2.1 pc = .ok (.invokevirtual ix, 3)) (k9 : vv_V l G M d (pc + 3) lv (v.toList ++ rest) E1.2 E) : vv_V l G M d pc lv st0 σ E := by
  subst hst
  refine ⟨⟨Nat.le_trans hM.1.1 k9.1.1, Nat.le_trans hM.1.2 k9.1.2⟩, fun p e9 R s m args below meth c H locs ls σ0 C0 h0 hR hS hl => ?_⟩
  obtain ⟨hx, hb, hr, hlk, hml, ho, hnme, hts, hK, htab, hRm, hz0⟩ := id C0
  obtain ⟨o1, o2, o3, o4, o5, o6, o7⟩ := hok
  obtain ⟨y1, cc1, nL1, r1, hh1⟩ := M1
  cases o1
  skip
  have b1 := k9.1.1
  have b2 := k9.1.2
  have b3 := hM.1.1
  have b4 := hM.1.2
  have hM := hM.2
  have hroom : (vv_rm d1 σ E1).frames + 1 ≤ R.frames ∧ 8 + (nL1 + 11) + (vv_rm d1 σ E1).locals ≤ R.locals := by
    rw [hRm]
    dsimp only at o2
    show d1 + 1 ≤ d ∧ 8 + (nL1 + 11) + 64 * d1 ≤ 64 * d
    omega
  have hfit : (σ.2.1 - σ0.2.1) + (E1.2.2.1 - σ.2.1) ≤ R.cells ∧ (σ.2.2 - σ0.2.2) + (E1.2.2.2 - σ.2.2) ≤ R.slots := by
    rw [hRm]
    show _ ≤ E.2.2.1 - σ0.2.1 ∧ _ ≤ E.2.2.2 - σ0.2.2
    omega
  have hrc : ∃ cellB : Cell, H[b]? = some cellB ∧ cellB.vm.isStatics = false ∧ s.vm.findClass y1.cls = some cellB.cls := by
    obtain ⟨f, fs, ci, T, N, h1, h2⟩ := hrecv
    exact va_recv hK.2.1 (hR.2.2.1 _ _ h1).Po (ci := ci) (q0 := 0) h2 rfl
  refine vv_cont hK.1 (vx_runVN (As := As) (rest := rest) ⟨hx, hb, hml, ho, hts⟩ hM ⟨va_cnB n hts (lw_meth o6) rfl rfl rfl (hlk1 s hK) (hts _ o5) o7 hroom, hts _ o3, hts _ o4⟩ ⟨vv_blind, hrc, vv_pre hK hR⟩ rfl hn (hl.1.trans rfl) rfl (lv_room hr8) dg hfit) hS hv (fun H1 locs1 hR1 hS1 => ?_)
  have k := k9.2 p e9 R s m args below meth c H1 locs1 ls σ0 C0 ⟨Nat.le_trans h0.1 b3, Nat.le_trans h0.2 b4⟩ hR1 hS1 hl
  rw [show E1.2.2.1 - σ0.2.1 = σ.2.1 - σ0.2.1 + (E1.2.2.1 - σ.2.1) by omega, show E1.2.2.2 - σ0.2.2 = σ.2.2 - σ0.2.2 + (E1.2.2.2 - σ.2.2) by omega] at k
  exact k
theorem vv_callSN {M1 : vv_M} {d1 n ix : Nat} {host : String} {As : List Value} {st0 : List Value} {E1 : vv_X} {v : Option Value} (hok : vv_okS M1 n) (hlk1 : ∀ U, vv_K G U → va_Nw (.methodLinkNest M.1.cls ix M1.1 host) U) (hM : vv_Met l G M1 d1 (As) σ E1) (hv : E1.1 = .inl v) (hd : d1 + 1 ≤ d) (hst : st0 = As.reverse ++ rest) (hn : As.length = n) (hr8 : (rest.map fun v => v.category).sum ≤ 8) (dg : decode M.2.1 pc = .ok (.invokestatic ix, 3)) (k9 : vv_V l G M d (pc + 3) lv (v.toList ++ rest) E1.2 E) : vv_V l G M d pc lv st0 σ E := by
  subst hst
  refine ⟨⟨Nat.le_trans hM.1.1 k9.1.1, Nat.le_trans hM.1.2 k9.1.2⟩, fun p e9 R s m args below meth c H locs ls σ0 C0 h0 hR hS hl => ?_⟩
  obtain ⟨hx, hb, hr, hlk, hml, ho, hnme, hts, hK, htab, hRm, hz0⟩ := id C0
  obtain ⟨o1, o2, o3, o4, o5, o6⟩ := hok
  obtain ⟨y1, cc1, nL1, r1, hh1⟩ := M1
  cases o1
  skip
  have b1 := k9.1.1
  have b2 := k9.1.2
  have b3 := hM.1.1
  have b4 := hM.1.2
  have hM := hM.2
  have hroom : (vv_rm d1 σ E1).frames + 1 ≤ R.frames ∧ 8 + (nL1 + 11) + (vv_rm d1 σ E1).locals ≤ R.locals := by
    rw [hRm]
    dsimp only at o2
    show d1 + 1 ≤ d ∧ 8 + (nL1 + 11) + 64 * d1 ≤ 64 * d
    omega
  have hfit : (σ.2.1 - σ0.2.1) + (E1.2.2.1 - σ.2.1) ≤ R.cells ∧ (σ.2.2 - σ0.2.2) + (E1.2.2.2 - σ.2.2) ≤ R.slots := by
    rw [hRm]
    show _ ≤ E.2.2.1 - σ0.2.1 ∧ _ ≤ E.2.2.2 - σ0.2.2
    omega
  refine vv_cont hK.1 (vx_runSN (As := As) (rest := rest) ⟨hx, hb, hml, ho, hts⟩ hM ⟨va_cnB n hts (lw_meth o5) rfl rfl rfl (hlk1 s hK) (hts _ o4) o6 hroom, hts _ o3, trivial⟩ ⟨vv_blind, vv_pre hK hR⟩ rfl hn (hl.1.trans rfl) rfl (lv_room hr8) dg hfit) hS hv (fun H1 locs1 hR1 hS1 => ?_)
  have k := k9.2 p e9 R s m args below meth c H1 locs1 ls σ0 C0 ⟨Nat.le_trans h0.1 b3, Nat.le_trans h0.2 b4⟩ hR1 hS1 hl
  rw [show E1.2.2.1 - σ0.2.1 = σ.2.1 - σ0.2.1 + (E1.2.2.1 - σ.2.1) by omega, show E1.2.2.2 - σ0.2.2 = σ.2.2 - σ0.2.2 + (E1.2.2.2 - σ.2.2) by omega] at k
  exact k
theorem vv_callIN {M1 : vv_M} {d1 n ix : Nat} {b : Nat} {host : String} {As : List Value} {st0 : List Value} {E1 : vv_X} {v : Option Value} (hok : vv_okI M1 n) (hlk1 : ∀ U, vv_K G U → va_Nw (.methodLinkNest M.1.cls ix M1.1 host) U) (hM : vv_Met l G M1 d1 (Value.ref b :: As) σ E1) (hv : E1.1 = .inl v) (hd : d1 + 1 ≤ d) (hst : st0 = As.reverse ++ .ref b :: rest) (hn : As.length = n) (hr8 : (rest.map fun v => v.category).sum ≤ 8) (dg : decode M.2.1 pc = .ok (.invokespecial ix, 3)) (k9 : vv_V l G M d (pc + 3) lv (v.toList ++ rest) E1.2 E) : vv_V l G M d pc lv st0 σ E := by
  subst hst
  refine ⟨⟨Nat.le_trans hM.1.1 k9.1.1, Nat.le_trans hM.1.2 k9.1.2⟩, fun p e9 R s m args below meth c H locs ls σ0 C0 h0 hR hS hl => ?_⟩
  obtain ⟨hx, hb, hr, hlk, hml, ho, hnme, hts, hK, htab, hRm, hz0⟩ := id C0
  obtain ⟨o1, o2, o8, o3, o4, o5, o6, o7⟩ := hok
  obtain ⟨y1, cc1, nL1, r1, hh1⟩ := M1
  cases o1
  cases o8
  have b1 := k9.1.1
  have b2 := k9.1.2
  have b3 := hM.1.1
  have b4 := hM.1.2
  have hM := hM.2
  have hroom : (vv_rm d1 σ E1).frames + 1 ≤ R.frames ∧ 8 + (nL1 + 11) + (vv_rm d1 σ E1).locals ≤ R.locals := by
    rw [hRm]
    dsimp only at o2
    show d1 + 1 ≤ d ∧ 8 + (nL1 + 11) + 64 * d1 ≤ 64 * d
    omega
  have hfit : (σ.2.1 - σ0.2.1) + (E1.2.2.1 - σ.2.1) ≤ R.cells ∧ (σ.2.2 - σ0.2.2) + (E1.2.2.2 - σ.2.2) ≤ R.slots := by
    rw [hRm]
    show _ ≤ E.2.2.1 - σ0.2.1 ∧ _ ≤ E.2.2.2 - σ0.2.2
    omega
  refine vv_cont hK.1 (vx_runIN (As := As) (rest := rest) ⟨hx, hb, hml, ho, hts⟩ hM ⟨va_cnB n hts (lw_meth o6) rfl rfl rfl (hlk1 s hK) (hts _ o5) o7 hroom, o3, hts _ o4⟩ ⟨vv_blind, vv_pre hK hR⟩ rfl hn (hl.1.trans rfl) rfl (lv_room hr8) dg hfit) hS hv (fun H1 locs1 hR1 hS1 => ?_)
  have k := k9.2 p e9 R s m args below meth c H1 locs1 ls σ0 C0 ⟨Nat.le_trans h0.1 b3, Nat.le_trans h0.2 b4⟩ hR1 hS1 hl
  rw [show E1.2.2.1 - σ0.2.1 = σ.2.1 - σ0.2.1 + (E1.2.2.1 - σ.2.1) by omega, show E1.2.2.2 - σ0.2.2 = σ.2.2 - σ0.2.2 + (E1.2.2.2 - σ.2.2) by omega] at k
  exact k
theorem vv_callF {M1 : vv_M} {d1 n ix : Nat} {b cnt : Nat} {xx : MethodName} {As : List Value} {st0 : List Value} {E1 : vv_X} {v : Option Value} (hok : vv_okF M1 n) (hlk1 : Cond.methodLink M.1.cls ix xx ∈ lw_all) (hM : vv_Met l G M1 d1 (Value.ref b :: As) σ E1) (hv : E1.1 = .inl v) (hd : d1 + 1 ≤ d) (hrecv : ∃ f fs ci T N, σ.1 b = some (f, .inr (ci, fs)) ∧ G.1[ci]? = some (M1.1.cls, T, N)) (hsel : Cond.selects M1.1.cls xx M1.1 ∈ lw_all) (hfw : ∀ U, vv_K G U → va_Fw M1.1.cls xx M1.1 U) (hxx : xx.cls ≠ "java/lang/invoke/MethodHandle" ∧ xx.cls ≠ "java/lang/invoke/VarHandle" ∧ (parseMethodDescriptor xx.desc).map (fun d => d.parameters.length) = some n) (hst : st0 = As.reverse ++ .ref b :: rest) (hn : As.length = n) (hr8 : (rest.map fun v => v.category).sum ≤ 8) (dg : decode M.2.1 pc = .ok (.invokeinterface ix cnt, 5)) (k9 : vv_V l G M d (pc + 5) lv (v.toList ++ rest) E1.2 E) : vv_V l G M d pc lv st0 σ E := by
  subst hst
  refine ⟨⟨Nat.le_trans hM.1.1 k9.1.1, Nat.le_trans hM.1.2 k9.1.2⟩, fun p e9 R s m args below meth c H locs ls σ0 C0 h0 hR hS hl => ?_⟩
  obtain ⟨hx, hb, hr, hlk, hml, ho, hnme, hts, hK, htab, hRm, hz0⟩ := id C0
  obtain ⟨o1, o2, o3, o5, o6⟩ := hok
  obtain ⟨y1, cc1, nL1, r1, hh1⟩ := M1
  cases o1
  skip
  have b1 := k9.1.1
  have b2 := k9.1.2
  have b3 := hM.1.1
  have b4 := hM.1.2
  have hM := hM.2
  have hroom : (vv_rm d1 σ E1).frames + 1 ≤ R.frames ∧ 8 + (nL1 + 11) + (vv_rm d1 σ E1).locals ≤ R.locals := by
    rw [hRm]
    dsimp only at o2
    show d1 + 1 ≤ d ∧ 8 + (nL1 + 11) + 64 * d1 ≤ 64 * d
    omega
  have hfit : (σ.2.1 - σ0.2.1) + (E1.2.2.1 - σ.2.1) ≤ R.cells ∧ (σ.2.2 - σ0.2.2) + (E1.2.2.2 - σ.2.2) ≤ R.slots := by
    rw [hRm]
    show _ ≤ E.2.2.1 - σ0.2.1 ∧ _ ≤ E.2.2.2 - σ0.2.2
    omega
  have hrc : ∃ cellB : Cell, H[b]? = some cellB ∧ cellB.vm.isStatics = false ∧ s.vm.findClass y1.cls = some cellB.cls := by
    obtain ⟨f, fs, ci, T, N, h1, h2⟩ := hrecv
    exact va_recv hK.2.1 (hR.2.2.1 _ _ h1).Po (ci := ci) (q0 := 0) h2 rfl
  obtain ⟨f9, fs9, ci9, T9, N9, h9, h9'⟩ := hrecv
  have hat : ClassAt s y1.cls (G.2.1.1 ci9) := (hK.2.1.1 ci9 _ h9').2
  refine vv_cont5 hK.1 (vx_runF hat (As := As) (rest := rest) ⟨hx, hb, hml, ho, hts⟩ hM (va_cwF n hts (lw_app (a := [.methodLink M.1.cls ix xx, .selects y1.cls xx y1, .instanceMethod y1, .initialized y1.cls]) (fun w hw => by simp only [List.mem_cons, List.not_mem_nil, or_false] at hw; rcases hw with e | e | e | e <;> rw [e] <;> assumption) (lw_meth o6)) rfl rfl rfl (hfw s hK) hxx hroom) ⟨vv_blind, hrc, vv_pre hK hR⟩ rfl hn (hl.1.trans rfl) rfl (lv_room hr8) dg hfit) hS hv (fun H1 locs1 hR1 hS1 => ?_)
  have k := k9.2 p e9 R s m args below meth c H1 locs1 ls σ0 C0 ⟨Nat.le_trans h0.1 b3, Nat.le_trans h0.2 b4⟩ hR1 hS1 hl
  rw [show E1.2.2.1 - σ0.2.1 = σ.2.1 - σ0.2.1 + (E1.2.2.1 - σ.2.1) by omega, show E1.2.2.2 - σ0.2.2 = σ.2.2 - σ0.2.2 + (E1.2.2.2 - σ.2.2) by omega] at k
  exact k
end VVX
