set_option maxRecDepth 100000
section VVHH
variable {l : Launch} {G : vv_G} {M : vv_M} {d pc : Nat} {lv lv' : List (Nat × Value)} {rest : List Value} {σ : vv_S} {E : vv_X}
def vv_okVH (M : vv_M) (n : Nat) : Prop := M.2.2.2.2 ≠ [] ∧ M.2.2.1 ≤ 45 ∧ Cond.instanceMethod M.1 ∈ lw_all ∧ Cond.selects M.1.cls M.1 M.1 ∈ lw_all ∧ Cond.initialized M.1.cls ∈ lw_all ∧ Cond.codeWith M.1 M.2.1 M.2.2.1 M.2.2.2.1 M.2.2.2.2 ∈ lw_all ∧ vv_okd M n
def vv_okSH (M : vv_M) (n : Nat) : Prop := M.2.2.2.2 ≠ [] ∧ M.2.2.1 ≤ 45 ∧ Cond.static M.1 ∈ lw_all ∧ Cond.initialized M.1.cls ∈ lw_all ∧ Cond.codeWith M.1 M.2.1 M.2.2.1 M.2.2.2.1 M.2.2.2.2 ∈ lw_all ∧ vv_okd M n

theorem vv_callVH {M1 : vv_M} {d1 n ix : Nat} {b : Nat} {As : List Value} {st0 : List Value} {E1 : vv_X} {v : Option Value} (hok : vv_okVH M1 n) (hlk1 : Cond.methodLink M.1.cls ix M1.1 ∈ lw_all) (hM : vv_Met l G M1 d1 (Value.ref b :: As) σ E1) (hv : E1.1 = .inl v) (hd : d1 + 1 ≤ d) (hrecv : ∃ f fs ci T N, σ.1 b = some (f, .inr (ci, fs)) ∧ G.1[ci]? = some (M1.1.cls, T, N)) (hst : st0 = As.reverse ++ .ref b :: rest) (hn : As.length = n) (hr8 : (rest.map fun v => v.category).sum ≤ 8) (dg : decode M.2.1 pc = .ok (.invokevirtual ix, 3)) (k9 : vv_V l G M d (pc + 3) lv (v.toList ++ rest) E1.2 E) : vv_V l G M d pc lv st0 σ E := by
  subst hst
  refine ⟨⟨Nat.le_trans hM.1.1 k9.1.1, Nat.le_trans hM.1.2 k9.1.2⟩, fun p e9 R s m args below meth c H locs ls σ0 C0 h0 hR hS hl => ?_⟩
  obtain ⟨hx, hb, hr, hlk, hml, ho, hnme, hts, hK, htab, hRm, hz0⟩ := id C0
  obtain ⟨o1, o2, o3, o4, o5, o6, o7⟩ := hok
  obtain ⟨y1, cc1, nL1, r1, hh1⟩ := M1
  obtain ⟨x1, hh2, rfl⟩ : ∃ x y, hh1 = x :: y := by cases hh1 with | nil => exact absurd rfl o1 | cons x y => exact ⟨x, y, rfl⟩
  have b1 := k9.1.1
  have b2 := k9.1.2
  have b3 := hM.1.1
  have b4 := hM.1.2
  have hM := hM.2
  have hroom : (vv_rm d1 σ E1).frames + 1 ≤ R.frames ∧ 8 + (nL1 + 11) + (vv_rm d1 σ E1).locals ≤ R.locals := by
    rw [hRm]
    dsimp only at o2
    show d1 + 1 ≤ d ∧ 8 + (nL1 + 11) + 64 * d1 ≤ 64 * d
    omega
  have hfit : (σ.2.1 - σ0.2.1) + (E1.2.2.1 - σ.2.1) ≤ R.cells ∧ (σ.2.2 - σ0.2.2) + (E1.2.2.2 - σ.2.2) ≤ R.slots := by
    rw [hRm]
    show _ ≤ E.2.2.1 - σ0.2.1 ∧ _ ≤ E.2.2.2 - σ0.2.2
    omega
  have hrc : ∃ cellB : Cell, H[b]? = some cellB ∧ cellB.vm.isStatics = false ∧ s.vm.findClass y1.cls = some cellB.cls := by
    obtain ⟨f, fs, ci, T, N, h1, h2⟩ := hrecv
    exact va_recv hK.2.1 (hR.2.2.1 _ _ h1).Po (ci := ci) (q0 := 0) h2 rfl
  refine vv_cont hK.1 (vx_runVX (As := As) (rest := rest) ⟨hx, hb, hml, ho, hts⟩ hM (vx_cwVW n hts (lw_VW hlk1 o3 o4 o5 o6) rfl rfl rfl ⟨rfl, o7.1, o7.2.1, o7.2.2⟩ hroom) ⟨vv_blind, hrc, vv_pre hK hR⟩ rfl hn (hl.1.trans rfl) rfl (lv_room hr8) dg hfit) hS hv (fun H1 locs1 hR1 hS1 => ?_)
  have k := k9.2 p e9 R s m args below meth c H1 locs1 ls σ0 C0 ⟨Nat.le_trans h0.1 b3, Nat.le_trans h0.2 b4⟩ hR1 hS1 hl
  rw [show E1.2.2.1 - σ0.2.1 = σ.2.1 - σ0.2.1 + (E1.2.2.1 - σ.2.1) by omega, show E1.2.2.2 - σ0.2.2 = σ.2.2 - σ0.2.2 + (E1.2.2.2 - σ.2.2) by omega] at k
  exact k
theorem vv_callVHX {M1 : vv_M} {d1 n ix : Nat} {b : Nat} {As : List Value} {st0 : List Value} {E1 : vv_X} {C : String} {q : Nat} (hok : vv_okVH M1 n) (hlk1 : Cond.methodLink M.1.cls ix M1.1 ∈ lw_all) (hM : vv_Met l G M1 d1 (Value.ref b :: As) σ E1) (hv : E1.1 = .inr (C, q)) (hd : d1 + 1 ≤ d) (hrecv : ∃ f fs ci T N, σ.1 b = some (f, .inr (ci, fs)) ∧ G.1[ci]? = some (M1.1.cls, T, N)) (hst : st0 = As.reverse ++ .ref b :: rest) (hn : As.length = n) (hr8 : (rest.map fun v => v.category).sum ≤ 8) (dg : decode M.2.1 pc = .ok (.invokevirtual ix, 3)) (k9 : vv_T l G M d pc C q lv E1.2 E) : vv_V l G M d pc lv st0 σ E := by
  subst hst
  refine ⟨⟨Nat.le_trans hM.1.1 k9.1.1, Nat.le_trans hM.1.2 k9.1.2⟩, fun p e9 R s m args below meth c H locs ls σ0 C0 h0 hR hS hl => ?_⟩
  obtain ⟨hx, hb, hr, hlk, hml, ho, hnme, hts, hK, htab, hRm, hz0⟩ := id C0
  obtain ⟨o1, o2, o3, o4, o5, o6, o7⟩ := hok
  obtain ⟨y1, cc1, nL1, r1, hh1⟩ := M1
  obtain ⟨x1, hh2, rfl⟩ : ∃ x y, hh1 = x :: y := by cases hh1 with | nil => exact absurd rfl o1 | cons x y => exact ⟨x, y, rfl⟩
  have b1 := k9.1.1
  have b2 := k9.1.2
  have b3 := hM.1.1
  have b4 := hM.1.2
  have hM := hM.2
  have hroom : (vv_rm d1 σ E1).frames + 1 ≤ R.frames ∧ 8 + (nL1 + 11) + (vv_rm d1 σ E1).locals ≤ R.locals := by
    rw [hRm]
    dsimp only at o2
    show d1 + 1 ≤ d ∧ 8 + (nL1 + 11) + 64 * d1 ≤ 64 * d
    omega
  have hfit : (σ.2.1 - σ0.2.1) + (E1.2.2.1 - σ.2.1) ≤ R.cells ∧ (σ.2.2 - σ0.2.2) + (E1.2.2.2 - σ.2.2) ≤ R.slots := by
    rw [hRm]
    show _ ≤ E.2.2.1 - σ0.2.1 ∧ _ ≤ E.2.2.2 - σ0.2.2
    omega
  have hrc : ∃ cellB : Cell, H[b]? = some cellB ∧ cellB.vm.isStatics = false ∧ s.vm.findClass y1.cls = some cellB.cls := by
    obtain ⟨f, fs, ci, T, N, h1, h2⟩ := hrecv
    exact va_recv hK.2.1 (hR.2.2.1 _ _ h1).Po (ci := ci) (q0 := 0) h2 rfl
  refine vv_contX hK.1 (vx_runVX (As := As) (rest := rest) ⟨hx, hb, hml, ho, hts⟩ hM (vx_cwVW n hts (lw_VW hlk1 o3 o4 o5 o6) rfl rfl rfl ⟨rfl, o7.1, o7.2.1, o7.2.2⟩ hroom) ⟨vv_blind, hrc, vv_pre hK hR⟩ rfl hn (hl.1.trans rfl) rfl (lv_room hr8) dg hfit) hS hv (fun H1 locs1 ce hR1 hS1 hce hcv hcl => ?_)
  have k := k9.2 p e9 R s m args below meth c H1 locs1 ls σ0 ce rest C0 ⟨Nat.le_trans h0.1 b3, Nat.le_trans h0.2 b4⟩ hR1 hS1 hl hce hcv hcl
  rw [show E1.2.2.1 - σ0.2.1 = σ.2.1 - σ0.2.1 + (E1.2.2.1 - σ.2.1) by omega, show E1.2.2.2 - σ0.2.2 = σ.2.2 - σ0.2.2 + (E1.2.2.2 - σ.2.2) by omega] at k
  exact k
theorem vv_callSH {M1 : vv_M} {d1 n ix : Nat} {As : List Value} {st0 : List Value} {E1 : vv_X} {v : Option Value} (hok : vv_okSH M1 n) (hlk1 : Cond.methodLink M.1.cls ix M1.1 ∈ lw_all) (hM : vv_Met l G M1 d1 (As) σ E1) (hv : E1.1 = .inl v) (hd : d1 + 1 ≤ d) (hst : st0 = As.reverse ++ rest) (hn : As.length = n) (hr8 : (rest.map fun v => v.category).sum ≤ 8) (dg : decode M.2.1 pc = .ok (.invokestatic ix, 3)) (k9 : vv_V l G M d (pc + 3) lv (v.toList ++ rest) E1.2 E) : vv_V l G M d pc lv st0 σ E := by
  subst hst
  refine ⟨⟨Nat.le_trans hM.1.1 k9.1.1, Nat.le_trans hM.1.2 k9.1.2⟩, fun p e9 R s m args below meth c H locs ls σ0 C0 h0 hR hS hl => ?_⟩
  obtain ⟨hx, hb, hr, hlk, hml, ho, hnme, hts, hK, htab, hRm, hz0⟩ := id C0
  obtain ⟨o1, o2, o3, o4, o5, o6⟩ := hok
  obtain ⟨y1, cc1, nL1, r1, hh1⟩ := M1
  obtain ⟨x1, hh2, rfl⟩ : ∃ x y, hh1 = x :: y := by cases hh1 with | nil => exact absurd rfl o1 | cons x y => exact ⟨x, y, rfl⟩
  have b1 := k9.1.1
  have b2 := k9.1.2
  have b3 := hM.1.1
  have b4 := hM.1.2
  have hM := hM.2
  have hroom : (vv_rm d1 σ E1).frames + 1 ≤ R.frames ∧ 8 + (nL1 + 11) + (vv_rm d1 σ E1).locals ≤ R.locals := by
    rw [hRm]
    dsimp only at o2
    show d1 + 1 ≤ d ∧ 8 + (nL1 + 11) + 64 * d1 ≤ 64 * d
    omega
  have hfit : (σ.2.1 - σ0.2.1) + (E1.2.2.1 - σ.2.1) ≤ R.cells ∧ (σ.2.2 - σ0.2.2) + (E1.2.2.2 - σ.2.2) ≤ R.slots := by
    rw [hRm]
    show _ ≤ E.2.2.1 - σ0.2.1 ∧ _ ≤ E.2.2.2 - σ0.2.2
    omega
  refine vv_cont hK.1 (vx_runSX (As := As) (rest := rest) ⟨hx, hb, hml, ho, hts⟩ hM (vx_cwSW n hts (lw_SW hlk1 o3 o4 o5) rfl rfl rfl o6 hroom) ⟨vv_blind, vv_pre hK hR⟩ rfl hn (hl.1.trans rfl) rfl (lv_room hr8) dg hfit) hS hv (fun H1 locs1 hR1 hS1 => ?_)
  have k := k9.2 p e9 R s m args below meth c H1 locs1 ls σ0 C0 ⟨Nat.le_trans h0.1 b3, Nat.le_trans h0.2 b4⟩ hR1 hS1 hl
  rw [show E1.2.2.1 - σ0.2.1 = σ.2.1 - σ0.2.1 + (E1.2.2.1 - σ.2.1) by omega, show E1.2.2.2 - σ0.2.2 = σ.2.2 - σ0.2.2 + (E1.2.2.2 - σ.2.2) by omega] at k
  exact k
theorem vv_callSHX {M1 : vv_M} {d1 n ix : Nat} {As : List Value} {st0 : List Value} {E1 : vv_X} {C : String} {q : Nat} (hok : vv_okSH M1 n) (hlk1 : Cond.methodLink M.1.cls ix M1.1 ∈ lw_all) (hM : vv_Met l G M1 d1 (As) σ E1) (hv : E1.1 = .inr (C, q)) (hd : d1 + 1 ≤ d) (hst : st0 = As.reverse ++ rest) (hn : As.length = n) (hr8 : (rest.map fun v => v.category).sum ≤ 8) (dg : decode M.2.1 pc = .ok (.invokestatic ix, 3)) (k9 : vv_T l G M d pc C q lv E1.2 E) : vv_V l G M d pc lv st0 σ E := by
  subst hst
  refine ⟨⟨Nat.le_trans hM.1.1 k9.1.1, Nat.le_trans hM.1.2 k9.1.2⟩, fun p e9 R s m args below meth c H locs ls σ0 C0 h0 hR hS hl => ?_⟩
  obtain ⟨hx, hb, hr, hlk, hml, ho, hnme, hts, hK, htab, hRm, hz0⟩ := id C0
  obtain ⟨o1, o2, o3, o4, o5, o6⟩ := hok
  obtain ⟨y1, cc1, nL1, r1, hh1⟩ := M1
  obtain ⟨x1, hh2, rfl⟩ : ∃ x y, hh1 = x :: y := by cases hh1 with | nil => exact absurd rfl o1 | cons x y => exact ⟨x, y, rfl⟩
  have b1 := k9.1.1
  have b2 := k9.1.2
  have b3 := hM.1.1
  have b4 := hM.1.2
  have hM := hM.2
  have hroom : (vv_rm d1 σ E1).frames + 1 ≤ R.frames ∧ 8 + (nL1 + 11) + (vv_rm d1 σ E1).locals ≤ R.locals := by
    rw [hRm]
    dsimp only at o2
    show d1 + 1 ≤ d ∧ 8 + (nL1 + 11) + 64 * d1 ≤ 64 * d
    omega
  have hfit : (σ.2.1 - σ0.2.1) + (E1.2.2.1 - σ.2.1) ≤ R.cells ∧ (σ.2.2 - σ0.2.2) + (E1.2.2.2 - σ.2.2) ≤ R.slots := by
    rw [hRm]
    show _ ≤ E.2.2.1 - σ0.2.1 ∧ _ ≤ E.2.2.2 - σ0.2.2
    omega
  refine vv_contX hK.1 (vx_runSX (As := As) (rest := rest) ⟨hx, hb, hml, ho, hts⟩ hM (vx_cwSW n hts (lw_SW hlk1 o3 o4 o5) rfl rfl rfl o6 hroom) ⟨vv_blind, vv_pre hK hR⟩ rfl hn (hl.1.trans rfl) rfl (lv_room hr8) dg hfit) hS hv (fun H1 locs1 ce hR1 hS1 hce hcv hcl => ?_)
  have k := k9.2 p e9 R s m args below meth c H1 locs1 ls σ0 ce rest C0 ⟨Nat.le_trans h0.1 b3, Nat.le_trans h0.2 b4⟩ hR1 hS1 hl hce hcv hcl
  rw [show E1.2.2.1 - σ0.2.1 = σ.2.1 - σ0.2.1 + (E1.2.2.1 - σ.2.1) by omega, show E1.2.2.2 - σ0.2.2 = σ.2.2 - σ0.2.2 + (E1.2.2.2 - σ.2.2) by omega] at k
  exact k
theorem vv_headH {n : Nat} {av : List Value} (hy : plainName M.1.cls = true) (hh : M.2.2.2.2 ≠ []) (hn : (lg_sl av).length ≤ M.2.2.1) (hlv : lv_args 0 av = lv) (k : vv_V l G M n 0 lv [] σ E) : vv_Met l G M n av σ E := by
  obtain ⟨y1, cc1, nL1, r1, hh1⟩ := M
  obtain ⟨x1, hh2, rfl⟩ : ∃ x y, hh1 = x :: y := by cases hh1 with | nil => exact absurd rfl hh | cons x y => exact ⟨x, y, rfl⟩
  refine ⟨k.1, vx_ofWH (cc := cc1) (maxL := nL1) (ret := r1) (hh := x1 :: hh2) hy rfl ?_⟩
  intro p e s m args below meth c s₁ B hml hv
  obtain ⟨rfl, hK, hR⟩ := hv
  have hts := atoms_spec (ws := wsW_ y1 cc1 nL1 r1 (x1 :: hh2)) B.pre
  have hco := hts _ List.mem_cons_self
  have hts : ∀ w ∈ lw_all, w.before _ s = true := fun w h => hts w (List.mem_cons_of_mem _ h)
  rw [lg_entry_eq]
  have hl := lv_entry av hn
  rw [hlv] at hl
  have k2 := k.2 p e _ s m av.toArray below meth c s.heap [] _ σ ⟨B.exec, B.bytes, B.returns, B.notSynchronized, hml, findClass_of_methodNamed B.named, (name_of_methodNamed B.named B.method).1, hts, hK, vx_table (x := y1) B hco, rfl, hR.2.1⟩ ⟨Nat.le_refl _, Nat.le_refl _⟩ hR va_S.rf hl
  rw [Nat.sub_self, Nat.sub_self] at k2
  exact k2
end VVHH
