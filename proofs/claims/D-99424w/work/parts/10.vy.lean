/-! ===== last rows of V ===== -/
set_option maxRecDepth 100000
theorem vv_selP {s : State} {args : Array Value} {C : String} {y0 y : MethodName} (h0 : (Cond.selects C y0 y0).before args s = true) (hc0 : y0.cls = y.cls) (hy : y.cls ≠ "java/lang/invoke/MethodHandle" ∧ y.cls ≠ "java/lang/invoke/VarHandle") (hpriv : (Cond.privateMethod y).before args s = true) (hinst : (Cond.instanceMethod y).before args s = true) : (Cond.selects C y y).before args s = true := by
  obtain ⟨c, r, m, hc, hr, hm, hs0, k, hk, hni⟩ := Cond.selects_spec h0
  obtain ⟨mk, methM, hnamed, hmethM, -, -⟩ := Cond.instanceMethod_spec hinst
  have hfound : s.methodFound? y.cls y.name y.desc = some mk := State.methodFound?_of_named hnamed hy
  have hcls : mk.cls = m.cls := Option.some.inj ((findClass_of_methodNamed hnamed).symm.trans (by rw [← hc0]; exact findClass_of_methodNamed hm))
  have hsel : selectMethod {} s.vm c mk = .method mk := selectMethod_private hmethM (Cond.privateMethod_at hpriv mk methM hnamed hmethM)
  simp only [Cond.before, Cond.holds, Cond.value, hc, hfound, hnamed, hsel, hcls, hk]
  simp; exact hni
section VVY
variable {l : Launch} {G : vv_G} {M : vv_M} {d pc : Nat} {lv lv' : List (Nat × Value)} {rest : List Value} {σ σ1 : vv_S} {E : vv_X}
/-- a nest mate's field -/
def vv_fldM (G : vv_G) (own : String) (ix ci k : Nat) : Prop := ∃ (C : String) (T : u_T) (N : Nat) (host : String) (ty0 : Nat → FieldType), G.1[ci]? = some (C, T, N) ∧ (∀ w ∈ u_ws C T N, w ∈ lw_all) ∧ k < N ∧ (∀ k, k < N → parseFieldDescriptor (T k).2.2.1 = some (ty0 k)) ∧ (∀ a, a < N → ∀ b, b < N → a ≠ b → (T a).2.1 ≠ (T b).2.1) ∧ ∀ U, vv_K G U → va_Nw (.fieldLinkNest own ix (T k).1 (T k).2.1 (T k).2.2.1 host) U
theorem vv_getM {a : Nat} {f : Bool} {ix ci k : Nat} {fs : List Value} {v : Value} (hf : vv_fldM G M.1.cls ix ci k) (he : σ.1 a = some (f, .inr (ci, fs))) (hv : fs[k]? = some v) (dg : decode M.2.1 pc = .ok (.getfield ix, 3)) (k9 : vv_V l G M d (pc + 3) lv (v :: rest) σ E) : vv_V l G M d pc lv (.ref a :: rest) σ E := by
  obtain ⟨C, T, N, host, ty0, hc, hin, hk, hty, hnm, hlink⟩ := hf
  exact vv_lift (fun hx hb ho hts hK hR hl kk => va_getN hx hb hts hin ho hK.2.1 (hR.2.2.1 _ _ he).Po 0 rfl hc k hk (va_Nw.use rfl (hlink _ hK)) (fun _ h => h) hv dg (kk _ hl)) k9
theorem vv_putM {a : Nat} {ix ci k : Nat} {ty : FieldType} {fs : List Value} {v : Value} (hf : vv_fldM G M.1.cls ix ci k) (hG : ∀ C T N, G.1[ci]? = some (C, T, N) → (T k).2.2.2 = false ∧ parseFieldDescriptor (T k).2.2.1 = some ty) (he : σ.1 a = some (true, .inr (ci, fs))) (hn : narrow ty v = v) (hfit : fits ty v = true) (hlen : k < fs.length) (dg : decode M.2.1 pc = .ok (.putfield ix, 3)) (k9 : vv_V l G M d (pc + 3) lv rest (vv_up σ.1 a (true, .inr (ci, fs.set k v)), σ.2) E) : vv_V l G M d pc lv (v :: .ref a :: rest) σ E := by
  refine ⟨k9.1, fun p e9 R s m args below meth c H locs ls σ0 C0 h0 hR hS hl => ?_⟩
  obtain ⟨C, T, N, host, ty0, hc, hin, hk, hty, hnm, hlink⟩ := hf
  obtain ⟨hfin, hd⟩ := hG C T N hc
  obtain ⟨hx, hb, hr, hlk, hml, ho, hnme, hts, hK, hrest⟩ := id C0
  have ha := hR.2.2.1 a _ he
  have hap := va_apart (own := M.1.cls) hts hin ty0 hty hnm hK.2.1 hc
  obtain ⟨r, h1, cell, q1, q2, q3, q4⟩ := ha.2
  have hr : r = (C, T, N) := Option.some.inj (h1.symm.trans hc)
  subst hr
  obtain ⟨hSl, hfc, kC, hkC, hkind⟩ := hK.2.1.1 ci _ hc
  obtain ⟨cf, kf, fi, f, hi, hsl⟩ := hSl k hk
  have hlay := hts _ (hin _ (u_in_lay hk))
  have hst := (u_facts hfc hkC (u_lays hts hin hk) hi).1
  unfold u_lay at hlay
  rw [if_neg (by rw [hfin]; decide)] at hlay
  have h6 := u_store hfc hkC hkind hlay hi hd hn hfit
  refine va_WputK hx hb (f := f) ho (va_Nw.use rfl (hlink s hK)) hi hst (by rw [q2]; exact h6) q1 q3 (by rw [hsl]; exact k2_hasslot (q4 k hk)) rfl rfl dg fun H' e1 e2 e3 => ?_
  rw [hsl] at e1 ⊢
  exact k9.2 p e9 R s m args below meth c H' _ ls σ0 C0 h0 (hR.put hK.1 ⟨ha.1, ⟨_, hc, t_OB.to (V := updV (vp_V fs) k v) ⟨_, e1, q2, q3, t_set q4 hap hk v⟩ (fun j _ => vp_updV_set hlen v j)⟩⟩ (ha.1 rfl) e2 e3) (hS.put e2 e3 (ha.1 rfl)) hl
/-- an inherited field, linked by the heir's name -/
def vv_fldH (G : vv_G) (own ref : String) (ix ci k : Nat) (ty : FieldType) : Prop := ∃ (C : String) (T : u_T) (N : Nat) (ty0 : Nat → FieldType), G.1[ci]? = some (C, T, N) ∧ (∀ w ∈ u_ws C T N, w ∈ lw_all) ∧ k < N ∧ (∀ k, k < N → parseFieldDescriptor (T k).2.2.1 = some (ty0 k)) ∧ (∀ a, a < N → ∀ b, b < N → a ≠ b → (T a).2.1 ≠ (T b).2.1) ∧ Cond.fieldLink own ix ref (T k).2.1 (T k).2.2.1 ∈ lw_all ∧ Cond.sameField ref (T k).1 (T k).2.1 (T k).2.2.1 ∈ lw_all ∧ (T k).2.2.2 = false ∧ parseFieldDescriptor (T k).2.2.1 = some ty
theorem vv_getH {a : Nat} {f : Bool} {ix ci k : Nat} {ref : String} {ty : FieldType} {fs : List Value} {v : Value} (hf : vv_fldH G M.1.cls ref ix ci k ty) (he : σ.1 a = some (f, .inr (ci, fs))) (hv : fs[k]? = some v) (dg : decode M.2.1 pc = .ok (.getfield ix, 3)) (k9 : vv_V l G M d (pc + 3) lv (v :: rest) σ E) : vv_V l G M d pc lv (.ref a :: rest) σ E := by
  obtain ⟨C, T, N, ty0, hc, hin, hk, hty, hnm, hlink, hsame, hfin, hd⟩ := hf
  exact vv_lift (fun hx hb ho hts hK hR hl kk => va_get hx hb hts hin ho hK.2.1 (hR.2.2.1 _ _ he).Po 0 rfl hc k hk (hts _ hlink) (u_same (hts _ hsame)) hv dg (kk _ hl)) k9
theorem vv_putH {a : Nat} {ix ci k : Nat} {ref : String} {ty : FieldType} {fs : List Value} {v : Value} (hf : vv_fldH G M.1.cls ref ix ci k ty) (he : σ.1 a = some (true, .inr (ci, fs))) (hn : narrow ty v = v) (hfit : fits ty v = true) (hlen : k < fs.length) (dg : decode M.2.1 pc = .ok (.putfield ix, 3)) (k9 : vv_V l G M d (pc + 3) lv rest (vv_up σ.1 a (true, .inr (ci, fs.set k v)), σ.2) E) : vv_V l G M d pc lv (v :: .ref a :: rest) σ E := by
  refine ⟨k9.1, fun p e9 R s m args below meth c H locs ls σ0 C0 h0 hR hS hl => ?_⟩
  obtain ⟨C, T, N, ty0, hc, hin, hk, hty, hnm, hlink, hsame, hfin, hd⟩ := hf
  obtain ⟨hx, hb, hr, hlk, hml, ho, hnme, hts, hK, hrest⟩ := id C0
  have ha := hR.2.2.1 a _ he
  have hap := va_apart (own := M.1.cls) hts hin ty0 hty hnm hK.2.1 hc
  obtain ⟨r, h1, cell, q1, q2, q3, q4⟩ := ha.2
  have hr : r = (C, T, N) := Option.some.inj (h1.symm.trans hc)
  subst hr
  obtain ⟨hSl, hfc, kC, hkC, hkind⟩ := hK.2.1.1 ci _ hc
  obtain ⟨cf, kf, fi, f, hi, hsl⟩ := hSl k hk
  have hlay := hts _ (hin _ (u_in_lay hk))
  have hst := (u_facts hfc hkC (u_lays hts hin hk) hi).1
  unfold u_lay at hlay
  rw [if_neg (by rw [hfin]; decide)] at hlay
  have h6 := u_store hfc hkC hkind hlay hi hd hn hfit
  refine W.putK hx hb (f := f) ⟨ho, hts _ hlink, ⟨_, _, _, u_same (hts _ hsame) _ hi⟩, hst⟩ (by rw [q2]; exact h6) q1 q3 (by rw [hsl]; exact k2_hasslot (q4 k hk)) rfl rfl dg fun H' e1 e2 e3 => ?_
  rw [hsl] at e1 ⊢
  exact k9.2 p e9 R s m args below meth c H' _ ls σ0 C0 h0 (hR.put hK.1 ⟨ha.1, ⟨_, hc, t_OB.to (V := updV (vp_V fs) k v) ⟨_, e1, q2, q3, t_set q4 hap hk v⟩ (fun j _ => vp_updV_set hlen v j)⟩⟩ (ha.1 rfl) e2 e3) (hS.put e2 e3 (ha.1 rfl)) hl
/-- String's two fields, of constants -/
def vv_str (G : vv_G) : Prop := ∀ (U : State) (k : Nat) (cf : ClassId) (kf : Class) (fi : Nat) (f : Field), vv_K G U → U.fieldFound? (TJ8 k).1 (TJ8 k).2.1 (TJ8 k).2.2.1 = some (cf, kf, fi, f) → f.isStatic = false
theorem vv_getS {a : Nat} {b : Bool} {ix k : Nat} {fs : List Value} {v : Value} (hG : vv_gok G) (hstr : vv_str G) (hk : k < 2) (hlink : Cond.fieldLink M.1.cls ix (TJ8 k).1 (TJ8 k).2.1 (TJ8 k).2.2.1 ∈ lw_all) (he : σ.1 a = some (b, .inr (14, fs))) (hv : fs[k]? = some v) (dg : decode M.2.1 pc = .ok (.getfield ix, 3)) (k9 : vv_V l G M d (pc + 3) lv (v :: rest) σ E) : vv_V l G M d pc lv (.ref a :: rest) σ E := by
  refine vv_lift (fun hx hb ho hts hK hR hl kk => ?_) k9
  have hc : G.1[14]? = some (RJ8, TJ8, 2) := by rw [hG.1]; rfl
  obtain ⟨r, h1, cell, q1, q2, q3, q4⟩ := (hR.2.2.1 _ _ he).2
  have hr : r = (RJ8, TJ8, 2) := Option.some.inj (h1.symm.trans hc)
  subst hr
  obtain ⟨hS, hfc, kC, hkC, hkind⟩ := hK.2.1.1 14 _ hc
  obtain ⟨cf, kf, fi, f, hi, hsl⟩ := hS k hk
  refine W.getf hx hb ho (hts _ hlink) hi (hstr _ k cf kf fi f hK hi) q1 (by rw [q3]; exact fun h => by cases h) (v := v) ?_ rfl rfl dg (kk _ hl)
  rw [hsl, q4 k hk]
  simp [vp_V, hv]
/-- references compared -/
theorem vv_acmpR_eq {x y : Nat} {off : Int} {tgt : Nat} (dg : decode M.2.1 pc = .ok (.if_acmp .eq off, 3)) (ht : (pc : Int) + off = (tgt : Int)) (kt : x = y → vv_V l G M d tgt lv rest σ E) (kf : ¬ x = y → vv_V l G M d (pc + 3) lv rest σ E) : vv_V l G M d pc lv (.ref y :: .ref x :: rest) σ E := vv_acmp_eq (rx := some x) (ry := some y) dg ht (fun h => kt (Option.some.inj h)) (fun h => kf (fun e => h (congrArg some e)))
theorem vv_acmpR_ne {x y : Nat} {off : Int} {tgt : Nat} (dg : decode M.2.1 pc = .ok (.if_acmp .ne off, 3)) (ht : (pc : Int) + off = (tgt : Int)) (kt : ¬ x = y → vv_V l G M d tgt lv rest σ E) (kf : x = y → vv_V l G M d (pc + 3) lv rest σ E) : vv_V l G M d pc lv (.ref y :: .ref x :: rest) σ E := vv_acmp_ne (rx := some x) (ry := some y) dg ht (fun h => kt (fun e => h (congrArg some e))) (fun h => kf (Option.some.inj h))
/-! arraycopy -/
def vv_okcopy (own : String) (ix : Nat) : Prop := Cond.methodLink own ix arraycopyName ∈ lw_all ∧ Cond.native arraycopyName ∈ lw_all ∧ Cond.static arraycopyName ∈ lw_all ∧ Cond.initialized "java/lang/System" ∈ lw_all
theorem vv_nn {z : Int32} (hz : ¬ z < 0) : z.toInt = (z.toNatClampNeg : Int) := by
  have hz0 : (0 : Int) ≤ z.toInt := by
    have := Int32.not_lt.mp hz
    simpa using Int32.le_iff_toInt_le.mp this
  show z.toInt = ((z.toInt.toNat : Nat) : Int)
  omega

theorem vv_copyb {ix a0 a n0 n1 : Nat} {b0 : Bool} {f g : Nat → Int32} {sp dp n : Int32} (hok : vv_okcopy M.1.cls ix) (he0 : σ.1 a0 = some (b0, .inl (.byte, n0, .inl f))) (he1 : σ.1 a = some (true, .inl (.byte, n1, .inl g))) (h1 : ¬ sp < 0) (h2 : ¬ dp < 0) (h3 : ¬ n < 0) (h4 : sp.toNatClampNeg + n.toNatClampNeg ≤ n0) (h5 : dp.toNatClampNeg + n.toNatClampNeg ≤ n1) (hfit : ∀ i, i < n.toNatClampNeg → fits .byte (.int (f (sp.toNatClampNeg + i))) = true) (hd : 1 ≤ d) (hr8 : (rest.map fun v => v.category).sum ≤ 8) (dg : decode M.2.1 pc = .ok (.invokestatic ix, 3))
    (k9 : vv_V l G M d (pc + 3) lv rest (vv_up σ.1 a (true, .inl (.byte, n1, .inl (va_cpy f g sp.toNatClampNeg dp.toNatClampNeg n.toNatClampNeg))), σ.2) E) : vv_V l G M d pc lv (.int n :: .int dp :: .ref a :: .int sp :: .ref a0 :: rest) σ E := by
  refine ⟨k9.1, fun p e9 R s m args below meth c H locs ls σ0 C0 h0 hR hS hl => ?_⟩
  obtain ⟨hx, hb, hr, hlk, hml, ho, hnme, hts, hK, htab, hRm, hz0⟩ := id C0
  have ha0 := hR.2.2.1 a0 _ he0
  have ha1 := hR.2.2.1 a _ he1
  have ht0 : .byte ∈ G.2.2.2.1 := ha0.2.1
  have ht1 : .byte ∈ G.2.2.2.1 := ha1.2.1
  obtain ⟨-, k0, hk0, cm0, hkk0⟩ := (hK.2.2.1 _ ht0).1 n0 (fun j => .int (f j))
  obtain ⟨-, k1, hk1, cm1, hkk1⟩ := (hK.2.2.1 _ ht1).1 n1 (fun j => .int (g j))
  intro T hT X
  have hc0 : H[a0]? = some (vp_cell (G.2.2.1 .byte) (n0, .inl f)) := ha0.2.2
  have hc1 : H[a]? = some (vp_cell (G.2.2.1 .byte) (n1, .inl g)) := ha1.2.2
  obtain ⟨vm', X', step⟩ := X.arraycopy hx ho (hts _ hok.1) (hts _ hok.2.1) (hts _ hok.2.2.1) (hts _ hok.2.2.2) (src := a0) (dst := a) (cs := vp_cell (G.2.2.1 .byte) (n0, .inl f)) (cd := vp_cell (G.2.2.1 .byte) (n1, .inl g)) (srcPos := sp) (destPos := dp) (n := n) (by rw [hT]; exact hc0) (by rw [hT]; exact hc1)
    (fun _ h => by cases h) (fun _ h => by cases h) (fun h => by cases h) (fun h => by cases h) hk0 hk1 hkk0 hkk1 (by rfl) h1 h2 h3
    (by rw [vv_nn h1, vv_nn h3]; show ¬ _ > ((arrV _ n0 (fun j => .int (f j))).slots.size : Int); rw [arrV_size]; omega)
    (by rw [vv_nn h2, vv_nn h3]; show ¬ _ > ((arrV _ n1 (fun j => .int (g j))).slots.size : Int); rw [arrV_size]; omega)
    (fun vm₁ hal i hi => by
      have e : (vp_cell (G.2.2.1 .byte) (n0, .inl f)).slots.getD (sp.toNatClampNeg + i) .null = .int (f (sp.toNatClampNeg + i)) := by
        show (arrV _ n0 (fun j => .int (f j))).slots.getD _ _ = _
        rw [Array.getD_eq_getD_getElem?, arrV_read _ _ (by omega)]
        rfl
      refine ⟨?_, ?_⟩
      · rw [e]
        exact hfit i hi
      · rw [e]
        exact trivial)
    (g := F0 m pc ls (.int n :: .int dp :: .ref a :: .int sp :: .ref a0 :: rest)) rfl (by show ls.size = c.maxLocals; rw [hml]; exact hl.1) (rest := rest) rfl (by rw [hb]; exact dg) (by rw [hRm]; exact hd) (by rw [hRm]; have hw : nativeFrameWords "java/lang/System" "arraycopy" 5 ≤ 40 := (by decide); show 2 * 0 + _ + _ ≤ 64 * d; omega)
  have e1 : copied (vp_cell (G.2.2.1 .byte) (n0, .inl f)) (vp_cell (G.2.2.1 .byte) (n1, .inl g)) sp dp n = vp_cell (G.2.2.1 .byte) (n1, .inl (va_cpy f g sp.toNatClampNeg dp.toNatClampNeg n.toNatClampNeg)) := va_copied (fun z => .int z) _ _ f g h4
  rw [e1] at X' step
  have hl9 : a < H.size := (Array.getElem?_eq_some_iff.mp hc1).1
  obtain ⟨ce, hce⟩ : ∃ z, z = vp_cell (G.2.2.1 .byte) (n1, .inl (va_cpy f g sp.toNatClampNeg dp.toNatClampNeg n.toNatClampNeg)) := ⟨_, rfl⟩
  rw [← hce] at X' step
  have hheap : ((T.setVm vm').setCell a ce).heap = H.setIfInBounds a ce := by rw [← hT]; rfl
  have oq : ∀ q : Nat, q ≠ a → (H.setIfInBounds a ce)[q]? = H[q]? := fun q hq => by simp [Array.getElem?_setIfInBounds, Ne.symm hq]
  have z : (H.setIfInBounds a ce).size = H.size := by simp
  obtain ⟨t, a1, b1⟩ := k9.2 p e9 R s m args below meth c _ _ ls σ0 C0 h0 (hR.put hK.1 (H' := H.setIfInBounds a ce) ⟨ha1.1, ha1.2.1, by rw [← hce]; simp [Array.getElem?_setIfInBounds, hl9]⟩ (ha1.1 rfl) z oq) ⟨by rw [z]; exact hS.1, fun q g1 g2 => by
      rw [oq q (fun e => g2 (by rw [e]; exact ha1.1 rfl))]
      exact hS.2.1 q g1 g2, fun q hq => by
      rcases List.mem_append.mp hq with h | h
      · exact hS.2.2 q h
      · obtain ⟨z, -, hz⟩ := List.mem_map.mp h
        rw [← hz]
        exact ha1.1 rfl⟩ hl _ hheap X'
  exact ⟨t, step t a1, b1⟩
theorem vv_copyq {ix a0 a n0 n1 : Nat} {b0 : Bool} {T0 T1 : String} {f g : Nat → Option Nat} {sp dp n : Int32} (hok : vv_okcopy M.1.cls ix) (he0 : σ.1 a0 = some (b0, .inl ((.object T0), n0, .inr (.inr (.inr (.inr f)))))) (he1 : σ.1 a = some (true, .inl ((.object T1), n1, .inr (.inr (.inr (.inr g)))))) (h1 : ¬ sp < 0) (h2 : ¬ dp < 0) (h3 : ¬ n < 0) (h4 : sp.toNatClampNeg + n.toNatClampNeg ≤ n0) (h5 : dp.toNatClampNeg + n.toNatClampNeg ≤ n1) (hel : ∀ i : Nat, i < n.toNatClampNeg → ∀ y : Nat, f (sp.toNatClampNeg + i) = some y → ∃ ev, σ.1 y = some ev ∧ vv_any G T1 ev) (hd : 1 ≤ d) (hr8 : (rest.map fun v => v.category).sum ≤ 8) (dg : decode M.2.1 pc = .ok (.invokestatic ix, 3))
    (k9 : vv_V l G M d (pc + 3) lv rest (vv_up σ.1 a (true, .inl ((.object T1), n1, .inr (.inr (.inr (.inr (va_cpy f g sp.toNatClampNeg dp.toNatClampNeg n.toNatClampNeg)))))), σ.2) E) : vv_V l G M d pc lv (.int n :: .int dp :: .ref a :: .int sp :: .ref a0 :: rest) σ E := by
  refine ⟨k9.1, fun p e9 R s m args below meth c H locs ls σ0 C0 h0 hR hS hl => ?_⟩
  obtain ⟨hx, hb, hr, hlk, hml, ho, hnme, hts, hK, htab, hRm, hz0⟩ := id C0
  have ha0 := hR.2.2.1 a0 _ he0
  have ha1 := hR.2.2.1 a _ he1
  have ht0 : (.object T0) ∈ G.2.2.2.1 := ha0.2.1
  have ht1 : (.object T1) ∈ G.2.2.2.1 := ha1.2.1
  obtain ⟨-, k0, hk0, cm0, hkk0⟩ := (hK.2.2.1 _ ht0).1 n0 (fun j => va_rf (f j))
  obtain ⟨-, k1, hk1, cm1, hkk1⟩ := (hK.2.2.1 _ ht1).1 n1 (fun j => va_rf (g j))
  intro T hT X
  have hc0 : H[a0]? = some (vp_cell (G.2.2.1 (.object T0)) (n0, .inr (.inr (.inr (.inr f))))) := ha0.2.2
  have hc1 : H[a]? = some (vp_cell (G.2.2.1 (.object T1)) (n1, .inr (.inr (.inr (.inr g))))) := ha1.2.2
  obtain ⟨vm', X', step⟩ := X.arraycopy hx ho (hts _ hok.1) (hts _ hok.2.1) (hts _ hok.2.2.1) (hts _ hok.2.2.2) (src := a0) (dst := a) (cs := vp_cell (G.2.2.1 (.object T0)) (n0, .inr (.inr (.inr (.inr f))))) (cd := vp_cell (G.2.2.1 (.object T1)) (n1, .inr (.inr (.inr (.inr g))))) (srcPos := sp) (destPos := dp) (n := n) (by rw [hT]; exact hc0) (by rw [hT]; exact hc1)
    (fun _ h => by cases h) (fun _ h => by cases h) (fun h => by cases h) (fun h => by cases h) hk0 hk1 hkk0 hkk1 rfl h1 h2 h3
    (by rw [vv_nn h1, vv_nn h3]; show ¬ _ > ((arrV _ n0 (fun j => va_rf (f j))).slots.size : Int); rw [arrV_size]; omega)
    (by rw [vv_nn h2, vv_nn h3]; show ¬ _ > ((arrV _ n1 (fun j => va_rf (g j))).slots.size : Int); rw [arrV_size]; omega)
    (fun vm₁ hal i hi => by
      have e : (vp_cell (G.2.2.1 (.object T0)) (n0, .inr (.inr (.inr (.inr f))))).slots.getD (sp.toNatClampNeg + i) .null = va_rf (f (sp.toNatClampNeg + i)) := by
        show (arrV _ n0 (fun j => va_rf (f j))).slots.getD _ _ = _
        rw [Array.getD_eq_getD_getElem?, arrV_read _ _ (by omega)]
        rfl
      rw [e]
      cases hy : f (sp.toNatClampNeg + i) with
      | none => exact ⟨rfl, trivial⟩
      | some y =>
        obtain ⟨ev, hev, hany⟩ := hel i hi y hy
        obtain ⟨cellV, g1, g2, ⟨kC, hkC⟩, hasg⟩ := hany s H y hK (hR.2.2.1 y _ hev)
        obtain ⟨kA, comp, r1, r2, r3, -⟩ := (hK.2.2.1 _ ht1).2
        cases hk1.symm.trans r1
        cases hkk1.symm.trans r2
        obtain ⟨kE, hkE, -⟩ := Vm.findClass_spec r3
        obtain ⟨kC', hkC', -⟩ := hal.2.2 _ _ hkC
        obtain ⟨kE', hkE', -⟩ := hal.2.2 _ _ hkE
        refine ⟨rfl, cellV, (show T.heap[y]? = some cellV by rw [hT]; exact g1), (fun q h => by rw [h] at g2; cases g2), ⟨kC', hkC'⟩, ?_, ?_⟩
        · exact ⟨kE', hkE'⟩
        · show vm₁.assignable _ _ = true
          rw [hal.assignable]
          exact hasg _ r3)
    (g := F0 m pc ls (.int n :: .int dp :: .ref a :: .int sp :: .ref a0 :: rest)) rfl (by show ls.size = c.maxLocals; rw [hml]; exact hl.1) (rest := rest) rfl (by rw [hb]; exact dg) (by rw [hRm]; exact hd) (by rw [hRm]; have hw : nativeFrameWords "java/lang/System" "arraycopy" 5 ≤ 40 := (by decide); show 2 * 0 + _ + _ ≤ 64 * d; omega)
  have e1 : copied (vp_cell (G.2.2.1 (.object T0)) (n0, .inr (.inr (.inr (.inr f))))) (vp_cell (G.2.2.1 (.object T1)) (n1, .inr (.inr (.inr (.inr g))))) sp dp n = vp_cell (G.2.2.1 (.object T1)) (n1, .inr (.inr (.inr (.inr (va_cpy f g sp.toNatClampNeg dp.toNatClampNeg n.toNatClampNeg))))) := va_copied (fun z => va_rf z) _ _ f g h4
  rw [e1] at X' step
  have hl9 : a < H.size := (Array.getElem?_eq_some_iff.mp hc1).1
  obtain ⟨ce, hce⟩ : ∃ z, z = vp_cell (G.2.2.1 (.object T1)) (n1, .inr (.inr (.inr (.inr (va_cpy f g sp.toNatClampNeg dp.toNatClampNeg n.toNatClampNeg))))) := ⟨_, rfl⟩
  rw [← hce] at X' step
  have hheap : ((T.setVm vm').setCell a ce).heap = H.setIfInBounds a ce := by rw [← hT]; rfl
  have oq : ∀ q : Nat, q ≠ a → (H.setIfInBounds a ce)[q]? = H[q]? := fun q hq => by simp [Array.getElem?_setIfInBounds, Ne.symm hq]
  have z : (H.setIfInBounds a ce).size = H.size := by simp
  obtain ⟨t, a1, b1⟩ := k9.2 p e9 R s m args below meth c _ _ ls σ0 C0 h0 (hR.put hK.1 (H' := H.setIfInBounds a ce) ⟨ha1.1, ha1.2.1, by rw [← hce]; simp [Array.getElem?_setIfInBounds, hl9]⟩ (ha1.1 rfl) z oq) ⟨by rw [z]; exact hS.1, fun q g1 g2 => by
      rw [oq q (fun e => g2 (by rw [e]; exact ha1.1 rfl))]
      exact hS.2.1 q g1 g2, fun q hq => by
      rcases List.mem_append.mp hq with h | h
      · exact hS.2.2 q h
      · obtain ⟨z, -, hz⟩ := List.mem_map.mp h
        rw [← hz]
        exact ha1.1 rfl⟩ hl _ hheap X'
  exact ⟨t, step t a1, b1⟩
theorem vv_callP {M1 : vv_M} {d1 n ix : Nat} {b : Nat} {C : String} {As : List Value} {st0 : List Value} {E1 : vv_X} {v : Option Value} (hok : vv_okF M1 n) (hdsc : vv_okd M1 n) {y0 : MethodName} (hlk1 : Cond.methodLink M.1.cls ix M1.1 ∈ lw_all) (hs0 : Cond.selects C y0 y0 ∈ lw_all) (hc0 : y0.cls = M1.1.cls) (hpr : Cond.privateMethod M1.1 ∈ lw_tbl) (hprv : ∀ U, vv_K G U → va_Nw (.privateMethod M1.1) U) (hM : vv_Met l G M1 d1 (Value.ref b :: As) σ E1) (hv : E1.1 = .inl v) (hd : d1 + 1 ≤ d) (hrecv : ∃ f fs ci T N, σ.1 b = some (f, .inr (ci, fs)) ∧ G.1[ci]? = some (C, T, N)) (hst : st0 = As.reverse ++ .ref b :: rest) (hn : As.length = n) (hr8 : (rest.map fun v => v.category).sum ≤ 8) (dg : decode M.2.1 pc = .ok (.invokevirtual ix, 3)) (k9 : vv_V l G M d (pc + 3) lv (v.toList ++ rest) E1.2 E) : vv_V l G M d pc lv st0 σ E := by
  subst hst
  refine ⟨⟨Nat.le_trans hM.1.1 k9.1.1, Nat.le_trans hM.1.2 k9.1.2⟩, fun p e9 R s m args below meth c H locs ls σ0 C0 h0 hR hS hl => ?_⟩
  obtain ⟨hx, hb, hr, hlk, hml, ho, hnme, hts, hK, htab, hRm, hz0⟩ := id C0
  obtain ⟨o1, o2, o3, o5, o6⟩ := hok
  obtain ⟨y1, cc1, nL1, r1, hh1⟩ := M1
  cases o1
  have b1 := k9.1.1
  have b2 := k9.1.2
  have b3 := hM.1.1
  have b4 := hM.1.2
  have hM := hM.2
  have hroom : (vv_rm d1 σ E1).frames + 1 ≤ R.frames ∧ 8 + (nL1 + 11) + (vv_rm d1 σ E1).locals ≤ R.locals := by
    rw [hRm]
    dsimp only at o2
    show d1 + 1 ≤ d ∧ 8 + (nL1 + 11) + 64 * d1 ≤ 64 * d
    omega
  have hfit : (σ.2.1 - σ0.2.1) + (E1.2.2.1 - σ.2.1) ≤ R.cells ∧ (σ.2.2 - σ0.2.2) + (E1.2.2.2 - σ.2.2) ≤ R.slots := by
    rw [hRm]
    show _ ≤ E.2.2.1 - σ0.2.1 ∧ _ ≤ E.2.2.2 - σ0.2.2
    omega
  have hrc : ∃ cellB : Cell, H[b]? = some cellB ∧ cellB.vm.isStatics = false ∧ s.vm.findClass C = some cellB.cls := by
    obtain ⟨f, fs, ci, T, N, h1, h2⟩ := hrecv
    exact va_recv hK.2.1 (hR.2.2.1 _ _ h1).Po (ci := ci) (q0 := 0) h2 rfl
  obtain ⟨f9, fs9, ci9, T9, N9, h9, h9'⟩ := hrecv
  have hat : ClassAt s C (G.2.1.1 ci9) := (hK.2.1.1 ci9 _ h9').2
  refine vv_cont hK.1 (vx_runV (C := C) (As := As) (rest := rest) ⟨hx, hb, hml, ho, hts⟩ hM ⟨callB_of n hts (lw_meth o6) rfl rfl rfl (hts _ o5) (hts _ hlk1) hdsc hroom, hts _ o3, vv_selP (hts _ hs0) hc0 ⟨hdsc.1, hdsc.2.1⟩ (va_Nw.use rfl (hprv s hK)) (hts _ o3)⟩ ⟨vv_blind, hrc, vv_pre hK hR⟩ rfl hn (hl.1.trans rfl) rfl (lv_room hr8) dg hfit) hS hv (fun H1 locs1 hR1 hS1 => ?_)
  have k := k9.2 p e9 R s m args below meth c H1 locs1 ls σ0 C0 ⟨Nat.le_trans h0.1 b3, Nat.le_trans h0.2 b4⟩ hR1 hS1 hl
  rw [show E1.2.2.1 - σ0.2.1 = σ.2.1 - σ0.2.1 + (E1.2.2.1 - σ.2.1) by omega, show E1.2.2.2 - σ0.2.2 = σ.2.2 - σ0.2.2 + (E1.2.2.2 - σ.2.2) by omega] at k
  exact k
theorem vv_callU {M1 : vv_M} {d1 n ix : Nat} {b : Nat} {C : String} {As : List Value} {st0 : List Value} {E1 : vv_X} {v : Option Value} (hok : vv_okF M1 n) (hdsc : vv_okd M1 n) (hlk1 : Cond.methodLink M.1.cls ix M1.1 ∈ lw_all) (hs0 : Cond.selects C M1.1 M1.1 ∈ lw_all) (hM : vv_Met l G M1 d1 (Value.ref b :: As) σ E1) (hv : E1.1 = .inl v) (hd : d1 + 1 ≤ d) (hrecv : ∃ f fs ci T N, σ.1 b = some (f, .inr (ci, fs)) ∧ G.1[ci]? = some (C, T, N)) (hst : st0 = As.reverse ++ .ref b :: rest) (hn : As.length = n) (hr8 : (rest.map fun v => v.category).sum ≤ 8) (dg : decode M.2.1 pc = .ok (.invokevirtual ix, 3)) (k9 : vv_V l G M d (pc + 3) lv (v.toList ++ rest) E1.2 E) : vv_V l G M d pc lv st0 σ E := by
  subst hst
  refine ⟨⟨Nat.le_trans hM.1.1 k9.1.1, Nat.le_trans hM.1.2 k9.1.2⟩, fun p e9 R s m args below meth c H locs ls σ0 C0 h0 hR hS hl => ?_⟩
  obtain ⟨hx, hb, hr, hlk, hml, ho, hnme, hts, hK, htab, hRm, hz0⟩ := id C0
  obtain ⟨o1, o2, o3, o5, o6⟩ := hok
  obtain ⟨y1, cc1, nL1, r1, hh1⟩ := M1
  cases o1
  have b1 := k9.1.1
  have b2 := k9.1.2
  have b3 := hM.1.1
  have b4 := hM.1.2
  have hM := hM.2
  have hroom : (vv_rm d1 σ E1).frames + 1 ≤ R.frames ∧ 8 + (nL1 + 11) + (vv_rm d1 σ E1).locals ≤ R.locals := by
    rw [hRm]
    dsimp only at o2
    show d1 + 1 ≤ d ∧ 8 + (nL1 + 11) + 64 * d1 ≤ 64 * d
    omega
  have hfit : (σ.2.1 - σ0.2.1) + (E1.2.2.1 - σ.2.1) ≤ R.cells ∧ (σ.2.2 - σ0.2.2) + (E1.2.2.2 - σ.2.2) ≤ R.slots := by
    rw [hRm]
    show _ ≤ E.2.2.1 - σ0.2.1 ∧ _ ≤ E.2.2.2 - σ0.2.2
    omega
  have hrc : ∃ cellB : Cell, H[b]? = some cellB ∧ cellB.vm.isStatics = false ∧ s.vm.findClass C = some cellB.cls := by
    obtain ⟨f, fs, ci, T, N, h1, h2⟩ := hrecv
    exact va_recv hK.2.1 (hR.2.2.1 _ _ h1).Po (ci := ci) (q0 := 0) h2 rfl
  obtain ⟨f9, fs9, ci9, T9, N9, h9, h9'⟩ := hrecv
  have hat : ClassAt s C (G.2.1.1 ci9) := (hK.2.1.1 ci9 _ h9').2
  refine vv_cont hK.1 (vx_runV (C := C) (As := As) (rest := rest) ⟨hx, hb, hml, ho, hts⟩ hM ⟨callB_of n hts (lw_meth o6) rfl rfl rfl (hts _ o5) (hts _ hlk1) hdsc hroom, hts _ o3, hts _ hs0⟩ ⟨vv_blind, hrc, vv_pre hK hR⟩ rfl hn (hl.1.trans rfl) rfl (lv_room hr8) dg hfit) hS hv (fun H1 locs1 hR1 hS1 => ?_)
  have k := k9.2 p e9 R s m args below meth c H1 locs1 ls σ0 C0 ⟨Nat.le_trans h0.1 b3, Nat.le_trans h0.2 b4⟩ hR1 hS1 hl
  rw [show E1.2.2.1 - σ0.2.1 = σ.2.1 - σ0.2.1 + (E1.2.2.1 - σ.2.1) by omega, show E1.2.2.2 - σ0.2.2 = σ.2.2 - σ0.2.2 + (E1.2.2.2 - σ.2.2) by omega] at k
  exact k
theorem vv_callSU {M1 : vv_M} {d1 n ix : Nat} {b : Nat} {C : String} {As : List Value} {st0 : List Value} {E1 : vv_X} {v : Option Value} (hok : vv_okF M1 n) (hdsc : vv_okd M1 n) (hlk1 : Cond.methodLink M.1.cls ix M1.1 ∈ lw_all) (hsm : Cond.sameMethod M1.1.cls M1.1.cls M1.1.name M1.1.desc ∈ lw_all) (hsu : Cond.superclass M.1.cls M1.1.cls ∈ lw_all) (hni : M1.1.name ≠ "<init>") (hM : vv_Met l G M1 d1 (Value.ref b :: As) σ E1) (hv : E1.1 = .inl v) (hd : d1 + 1 ≤ d) (hrecv : ∃ f fs ci T N, σ.1 b = some (f, .inr (ci, fs)) ∧ G.1[ci]? = some (C, T, N)) (hst : st0 = As.reverse ++ .ref b :: rest) (hn : As.length = n) (hr8 : (rest.map fun v => v.category).sum ≤ 8) (dg : decode M.2.1 pc = .ok (.invokespecial ix, 3)) (k9 : vv_V l G M d (pc + 3) lv (v.toList ++ rest) E1.2 E) : vv_V l G M d pc lv st0 σ E := by
  subst hst
  refine ⟨⟨Nat.le_trans hM.1.1 k9.1.1, Nat.le_trans hM.1.2 k9.1.2⟩, fun p e9 R s m args below meth c H locs ls σ0 C0 h0 hR hS hl => ?_⟩
  obtain ⟨hx, hb, hr, hlk, hml, ho, hnme, hts, hK, htab, hRm, hz0⟩ := id C0
  obtain ⟨o1, o2, o3, o5, o6⟩ := hok
  obtain ⟨y1, cc1, nL1, r1, hh1⟩ := M1
  cases o1
  have b1 := k9.1.1
  have b2 := k9.1.2
  have b3 := hM.1.1
  have b4 := hM.1.2
  have hM := hM.2
  have hroom : (vv_rm d1 σ E1).frames + 1 ≤ R.frames ∧ 8 + (nL1 + 11) + (vv_rm d1 σ E1).locals ≤ R.locals := by
    rw [hRm]
    dsimp only at o2
    show d1 + 1 ≤ d ∧ 8 + (nL1 + 11) + 64 * d1 ≤ 64 * d
    omega
  have hfit : (σ.2.1 - σ0.2.1) + (E1.2.2.1 - σ.2.1) ≤ R.cells ∧ (σ.2.2 - σ0.2.2) + (E1.2.2.2 - σ.2.2) ≤ R.slots := by
    rw [hRm]
    show _ ≤ E.2.2.1 - σ0.2.1 ∧ _ ≤ E.2.2.2 - σ0.2.2
    omega
  have hrc : ∃ cellB : Cell, H[b]? = some cellB ∧ cellB.vm.isStatics = false ∧ s.vm.findClass C = some cellB.cls := by
    obtain ⟨f, fs, ci, T, N, h1, h2⟩ := hrecv
    exact va_recv hK.2.1 (hR.2.2.1 _ _ h1).Po (ci := ci) (q0 := 0) h2 rfl
  obtain ⟨f9, fs9, ci9, T9, N9, h9, h9'⟩ := hrecv
  have hat : ClassAt s C (G.2.1.1 ci9) := (hK.2.1.1 ci9 _ h9').2
  refine vv_cont hK.1 (vx_runSU hat (As := As) (rest := rest) ⟨hx, hb, hml, ho, hts⟩ hM (va_cwSU n hts (lw_app (a := [.methodLink M.1.cls ix y1, .sameMethod y1.cls y1.cls y1.name y1.desc, .superclass M.1.cls y1.cls, .instanceMethod y1, .initialized y1.cls]) (fun w hw => by simp only [List.mem_cons, List.not_mem_nil, or_false] at hw; rcases hw with e | e | e | e | e <;> rw [e] <;> assumption) (lw_meth o6)) rfl rfl rfl ⟨hni, hdsc.2.2⟩ hroom) ⟨vv_blind, hrc, vv_pre hK hR⟩ rfl hn (hl.1.trans rfl) rfl (lv_room hr8) dg hfit) hS hv (fun H1 locs1 hR1 hS1 => ?_)
  have k := k9.2 p e9 R s m args below meth c H1 locs1 ls σ0 C0 ⟨Nat.le_trans h0.1 b3, Nat.le_trans h0.2 b4⟩ hR1 hS1 hl
  rw [show E1.2.2.1 - σ0.2.1 = σ.2.1 - σ0.2.1 + (E1.2.2.1 - σ.2.1) by omega, show E1.2.2.2 - σ0.2.2 = σ.2.2 - σ0.2.2 + (E1.2.2.2 - σ.2.2) by omega] at k
  exact k
end VVY
