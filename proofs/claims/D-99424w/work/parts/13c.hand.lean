set_option maxRecDepth 100000
/-! Collection.getClass on an ArrayList -/
def vv_gcI : MethodName := ⟨"java/util/Collection", "getClass", "()Ljava/lang/Class;"⟩
theorem vv_selI {A : Array Value} {s : State} {C : String} (hface : (Cond.interfaceMethod "java/util/Collection" "java/lang/Object" "getClass" "()Ljava/lang/Class;").before A s = true) (hsel : (Cond.selects C Stand.gcN Stand.gcN).before A s = true) : (Cond.selects C vv_gcI Stand.gcN).before A s = true := by
  obtain ⟨cL, kL, r1, hcL, hkL, hiL, hfoundL, hn1⟩ := Cond.interfaceMethod_spec hface
  obtain ⟨c2, r2, m2, q1, q2, q3, q4, kP, hkP, hkPi⟩ := Cond.selects_spec hsel
  cases (State.methodFound?_of_named q3 (by decide)).symm.trans q2
  cases (show s.methodNamed? Stand.gcN = some r1 from hn1).symm.trans q3
  have hf : s.methodFound? vv_gcI.cls vv_gcI.name vv_gcI.desc = some r1 := hfoundL
  simp [Cond.before, Cond.holds, Cond.value, q1, hf, q3, q4, hkP, hkPi]
theorem vv_getcF {l : Launch} {G : vv_G} {M : vv_M} {ad : Nat → Nat} {d pc : Nat} {lv : List (Nat × Value)} {rest : List Value} {σ : vv_S} {E : vv_X} {a ix cnt : Nat} {f : Bool} {fs : List Value} (hG : vv_gok G) (hH : vv_hy l G ad) (he : σ.1 a = some (f, .inr (11, fs))) (hlk : Cond.methodLink M.1.cls ix vv_gcI ∈ lw_all) (hd : 1 ≤ d) (hr8 : (rest.map fun v => v.category).sum ≤ 8) (dg : decode M.2.1 pc = .ok (.invokeinterface ix cnt, 5)) (k9 : vv_V l G M d (pc + 5) lv (.ref (ad 4) :: rest) σ E) : vv_V l G M d pc lv (.ref a :: rest) σ E := by
  refine ⟨k9.1, fun p e9 R s m args below meth c H locs ls σ0 C0 h0 hR hS hl => ?_⟩
  obtain ⟨hx, hb, hr, hlk9, hml, ho, hnme, hts, hK, htab, hRm, hz0⟩ := id C0
  have his : vv_is G "java/util/ArrayList" (f, .inr (11, fs)) := ⟨_, _, by rw [hG.1]; rfl⟩
  obtain ⟨cell, g1, g2, g3⟩ := his.recv hK (hR.2.2.1 _ _ he)
  obtain ⟨c0, k0, h1, h2, h3⟩ := (hH.1.2.2.2.1 s hK).2.1
  cases h1.symm.trans g3
  have nP : ∀ w ∈ lw_tbl, vv_prv w = true → w.onTables = true → w.before args s = true := fun w hw hp ht => va_Nw.use ht (hH.2.2.2.2.2.2 w hw hp s hK)
  have nW : ∀ w ∈ lw_tbl, vv_nwk w = true → w.onTables = true → w.before args s = true := fun w hw hp ht => va_Nw.use ht (hH.1.2.1 s hK w hw hp)
  have hface : (Cond.interfaceMethod "java/util/Collection" "java/lang/Object" "getClass" "()Ljava/lang/Class;").before args s = true := nP _ q678 rfl rfl
  have hRf : 1 ≤ R.frames := by rw [hRm]; exact hd
  have hRl : (rest.map fun v => v.category).sum + 14 ≤ R.locals := by rw [hRm]; show _ ≤ 64 * d; omega
  have kk := k9.2 p e9 R s m args below meth c H locs ls σ0 C0 h0 hR hS hl
  intro T hT X
  obtain ⟨vm', X', st⟩ := X.getClassOfI hx ho (hts _ hlk) (nW _ q679 rfl rfl) hface (vv_selI hface (hts _ q408)) (hts _ q392) (nP _ q681 rfl rfl) (nP _ q680 rfl rfl) (nW _ q670 rfl rfl) (hts _ q410) ⟨by decide, by decide⟩ (by decide) rfl rfl h1 h2 ⟨cell, by rw [hT]; exact g1, rfl, g2⟩ h3 (g := F0 m pc ls (.ref a :: rest)) rfl (by rw [hml]; exact hl.1) rfl (by rw [hb]; exact dg) hRf (by show 2 * 0 + _ + _ ≤ _; have hw : nativeFrameWords "java/lang/Object" "getClass" 1 = 3 := (by decide); omega)
  obtain ⟨t, a1, b1⟩ := kk (T.setVm vm') hT X'
  exact ⟨t, st t a1, b1⟩
/-! arrays of int arrays -/
def nwM (σ : vv_S) (n k : Int32) : Option vv_S := if n < 0 ∨ k < 0 ∨ 4096 < n.toNatClampNeg ∨ 4096 < k.toNatClampNeg then none else some (fun q => if q = σ.2.1 then some (true, .inl (.array .int, n.toNatClampNeg, .inr (.inr (.inr (.inr (fun j => if j < n.toNatClampNeg then some (σ.2.1 + 1 + j) else none)))))) else if σ.2.1 < q ∧ q ≤ σ.2.1 + n.toNatClampNeg then some (true, .inl (.int, k.toNatClampNeg, .inl (fun _ => 0))) else σ.1 q, σ.2.1 + 1 + n.toNatClampNeg, σ.2.2 + n.toNatClampNeg + n.toNatClampNeg * k.toNatClampNeg)
theorem nM_o {β : Type} {σ : vv_S} {n k : Int32} {g : vv_S → Option β} {r : β} (h : (nwM σ n k).bind g = some r) : ∃ σ1, nwM σ n k = some σ1 ∧ g σ1 = some r := by
  cases h1 : nwM σ n k with
  | none => rw [h1] at h; cases h
  | some σ1 => rw [h1] at h; exact ⟨σ1, rfl, h⟩
theorem vv_outer (c : ClassId) (N h0 : Nat) : ∀ i, Free.Multi.outerC c N h0 i = arrV c N (fun j => va_rf (if j < i then some (h0 + 1 + j) else none))
  | 0 => by
    show ({ cls := c, slots := Array.replicate N .null, vm := .none } : Cell) = _
    rw [arrV_new]
    rfl
  | i + 1 => by
    show (Free.Multi.outerC c N h0 i).setSlot i (.ref (h0 + 1 + i)) = _
    rw [vv_outer c N h0 i, arrV_store]
    congr 1
    funext j
    unfold updV
    by_cases hj : j = i
    · subst hj; rw [if_pos rfl, if_pos (Nat.lt_succ_self j)]; rfl
    · rw [if_neg hj]
      show va_rf (if j < i then some (h0 + 1 + j) else none) = _
      by_cases h : j < i
      · rw [if_pos h, if_pos (Nat.lt_succ_of_lt h)]
      · rw [if_neg h, if_neg (by omega)]
theorem vv_mna {l : Launch} {G : vv_G} {M : vv_M} {ad : Nat → Nat} {d pc : Nat} {lv : List (Nat × Value)} {rest : List Value} {σ σ1 : vv_S} {E : vv_X} {ix : Nat} {n k : Int32} (hG : vv_gok G) (hH : vv_hy l G ad) (he : nwM σ n k = some σ1) (hlk : Cond.classLink M.1.cls ix "[[I" ∈ lw_all) (dg : decode M.2.1 pc = .ok (.multianewarray ix 2, 4)) (k9 : vv_V l G M d (pc + 4) lv (.ref σ.2.1 :: rest) σ1 E) : vv_V l G M d pc lv (.int k :: .int n :: rest) σ E := by
  unfold nwM at he
  split at he
  · cases he
  · rename_i hc
    cases he
    have hn : ¬ n < 0 := fun q => hc (Or.inl q)
    have hk : ¬ k < 0 := fun q => hc (Or.inr (Or.inl q))
    have hnN : n.toNatClampNeg ≤ 4096 := Nat.not_lt.mp fun q => hc (Or.inr (Or.inr (Or.inl q)))
    have hkK : k.toNatClampNeg ≤ 4096 := Nat.not_lt.mp fun q => hc (Or.inr (Or.inr (Or.inr q)))
    have b1 := k9.1.1
    have b2 := k9.1.2
    dsimp only at b1 b2
    refine ⟨⟨by omega, by omega⟩, fun p e9 R s m args below meth c H locs ls σ0 C0 h0 hR hS hl => ?_⟩
    obtain ⟨hx, hb, hr, hlk9, hml, ho, hnme, hts, hK, htab, hRm, hz0⟩ := id C0
    have hT : FieldType.array .int ∈ G.2.2.2.1 := by rw [hG.2]; decide
    have hI : FieldType.int ∈ G.2.2.2.1 := by rw [hG.2]; decide
    have h01 := h0.1
    have h02 := h0.2
    have hcl : σ.2.1 - σ0.2.1 + (1 + n.toNatClampNeg) ≤ R.cells := by rw [hRm]; show _ ≤ E.2.2.1 - σ0.2.1; omega
    have hsl : σ.2.2 - σ0.2.2 + (n.toNatClampNeg + n.toNatClampNeg * k.toNatClampNeg) ≤ R.slots := by rw [hRm]; show _ ≤ E.2.2.2 - σ0.2.2; omega
    intro T hTH X
    obtain ⟨vm', cA, comp, hW, hfA, hfC, hO, hIn, X', st⟩ := X.multianewarray2F hx (own := M.1.cls) (index := ix) (ty := .int) ho (hts _ hlk) (show (Cond.arrayOver (.array .int)).before args s = true from hH.1.2.1 s hK _ q1399 rfl) (hts _ q183) (g := F0 m pc ls (.int k :: .int n :: rest)) rfl (by rw [hb]; exact dg) rfl hn hk (by omega) (by show _ * 4 ≤ _; omega) (by omega) rfl rfl hcl hsl
    have hcA : G.2.2.1 (.array .int) = cA := by
      have h4 := (hK.2.2.1 _ hT).2
      unfold va_RA at h4
      exact Option.some.inj (h4.symm.trans hfA)
    have hcC : G.2.2.1 .int = comp := by
      have h4 := (hK.2.2.1 _ hI).2
      unfold va_RA at h4
      exact Option.some.inj (h4.symm.trans hfC)
    have hsz : (T.setVm vm').heap.size = H.size := by show T.heap.size = _; rw [hTH]
    obtain ⟨f1, f2, -, -⟩ := Free.Multi.fill_facts (T.setVm vm') cA comp n.toNatClampNeg k.toNatClampNeg (defaultValue .int) n.toNatClampNeg
    have f3 := fun a (ha : a < (T.setVm vm').heap.size) => Free.Multi.fill_old (T.setVm vm') cA comp n.toNatClampNeg k.toNatClampNeg (defaultValue .int) ha n.toNatClampNeg
    have f4 := Free.Multi.fill_inner (T.setVm vm') cA comp n.toNatClampNeg k.toNatClampNeg (defaultValue .int) n.toNatClampNeg
    generalize hF : Free.Multi.fill (T.setVm vm') cA comp n.toNatClampNeg k.toNatClampNeg (defaultValue .int) n.toNatClampNeg = F at X' st f1 f2 f3 f4
    rw [hsz] at f1 f2 f4
    have f3' : ∀ a : Nat, a < H.size → F.heap[a]? = H[a]? := fun a ha => (f3 a (by rw [hsz]; exact ha)).trans (by show T.heap[a]? = _; rw [hTH])
    have hRn : vv_Rel G s (fun q => if q = σ.2.1 then some (true, .inl (.array .int, n.toNatClampNeg, .inr (.inr (.inr (.inr (fun j => if j < n.toNatClampNeg then some (σ.2.1 + 1 + j) else none)))))) else if σ.2.1 < q ∧ q ≤ σ.2.1 + n.toNatClampNeg then some (true, .inl (.int, k.toNatClampNeg, .inl (fun _ => 0))) else σ.1 q, σ.2.1 + 1 + n.toNatClampNeg, σ.2.2 + n.toNatClampNeg + n.toNatClampNeg * k.toNatClampNeg) F.heap := by
      refine ⟨by rw [f1, hR.1], by rw [f1]; have := hR.2.1; omega, fun b e' hb => ?_, fun P hP => hK.1.2 P hP s s H F.heap (Vm.Alike.refl _) (fun q hq => f3' q (Nat.lt_of_lt_of_le hq hR.2.1)) (hR.2.2.2 P hP)⟩
      have hbase : G.2.2.2.2.1 ≤ σ.2.1 := by rw [← hR.1]; exact hR.2.1
      dsimp only at hb
      split at hb
      · rename_i hbq
        cases hb
        subst hbq
        refine ⟨fun _ => hbase, hT, ?_⟩
        rw [hcA, vp_cell_q, ← hR.1, f2, vv_outer]
      · split at hb
        · rename_i hbq hr2
          cases hb
          refine ⟨fun _ => Nat.le_trans hbase (Nat.le_of_lt hr2.1), hI, ?_⟩
          have hj := f4 (b - σ.2.1 - 1) (by omega)
          rw [hR.1, show σ.2.1 + 1 + (b - σ.2.1 - 1) = b by omega] at hj
          rw [hcC, vp_cell_i, hj]
          show some ({ cls := comp, slots := Array.replicate k.toNatClampNeg (.int 0), vm := .none } : Cell) = _
          rw [arrV_new]
        · have h1 := hR.2.2.1 b e' hb
          exact h1.kept (f3' b h1.lt)
    have hSn : va_S (vv_A G) s.heap F.heap locs := ⟨Nat.le_trans hS.1 (by rw [f1]; omega), fun q h1 h2 => (f3' q (Nat.lt_of_lt_of_le h1 hS.1)).trans (hS.2.1 q h1 h2), hS.2.2⟩
    have kk := k9.2 p e9 R s m args below meth c F.heap locs ls σ0 C0 ⟨by show σ0.2.1 ≤ σ.2.1 + 1 + _; omega, by show σ0.2.2 ≤ σ.2.2 + _ + _; omega⟩ hRn hSn hl
    dsimp only at kk
    rw [show σ.2.1 + 1 + n.toNatClampNeg - σ0.2.1 = σ.2.1 - σ0.2.1 + 1 + n.toNatClampNeg by omega, show σ.2.2 + n.toNatClampNeg + n.toNatClampNeg * k.toNatClampNeg - σ0.2.2 = σ.2.2 - σ0.2.2 + n.toNatClampNeg + n.toNatClampNeg * k.toNatClampNeg by omega] at kk
    obtain ⟨t, a1, b1⟩ := kk F rfl X'
    have hgs : T.heap.size = σ.2.1 := by rw [hTH, hR.1]
    rw [hgs] at st
    exact ⟨t, st t a1, b1⟩
