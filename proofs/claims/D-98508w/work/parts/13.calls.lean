/-! ===== calls ===== -/
set_option maxRecDepth 100000
/-- the callee's environment: the caller's, or the caller's with no skeleton -/
def EX (E E' : EV) (σ σ1 : St) : Prop := ∃ f : St → Prop, E' = (eD E, eT E, eAd E, eSz E, eA E, f, eKc E, eMx E, eMs E, eLo E) ∧ (eSk E σ → f σ) ∧ (eSk E σ → f σ1 → eSk E σ1)
theorem EX.same {E : EV} {σ σ1 : St} : EX E E σ σ1 := ⟨eSk E, Eq.refl _, id, fun _ h => h⟩
theorem EX.noSk {E : EV} {σ σ1 : St} (h : eSk E σ → eSk E σ1) : EX E (noSk E) σ σ1 := ⟨fun _ => True, Eq.refl _, fun _ => trivial, fun a _ => h a⟩
/-- from noSk to any -/
theorem EX.kb {E E' : EV} {σ σ1 : St} (h : EX E E' σ σ1) {U : State} (hK : KB E U) : KB E' U := by
  obtain ⟨f, rfl, -, -⟩ := h
  exact hK
theorem EX.rel {E E' : EV} {σ σ1 : St} (h : EX E E' σ σ1) {H : Heap} (hR : Rel E σ H) : Rel E' σ H := by
  obtain ⟨f, rfl, h1, -⟩ := h
  obtain ⟨r1, r2, r3, r4, r5, r6⟩ := hR
  exact ⟨r1, r2, r3, r4, r5, h1 r6⟩
theorem EX.back {E E' : EV} {σ σ1 : St} (h : EX E E' σ σ1) (hs : eSk E σ) {H : Heap} (hR : Rel E' σ1 H) : Rel E σ1 H := by
  obtain ⟨f, rfl, -, h2⟩ := h
  obtain ⟨r1, r2, r3, r4, r5, r6⟩ := hR
  exact ⟨r1, r2, r3, r4, r5, h2 hs r6⟩
/-- room apart from what is used -/
def PreO (R rm : Room) (Pc : Array Value → State → Prop) : Pt → Array Value → Prop := fun A a => A.cells + rm.cells ≤ R.cells ∧ A.slots + rm.slots ≤ R.slots ∧ Pc a A.U
theorem z_back {l : Launch} {R : Room} {p : Program} {e : Env} {below : List Frame} {s : State} {sargs : Array Value} {y : MethodName} {len W : Nat} {ws : List Cond} {rm : Room} {Pc : Array Value → State → Prop} {Qc : Array Value → State → Outcome → State → Prop} {mc ms : Nat} {free : Addr → Prop} {bytes : ByteArray} {maxL : Nat} {ret : Option FieldType}
    (hM : Met l y ws rm Pc Qc mc ms free) (hblind : FrameBlind Pc) (hframes : rm.frames + 1 ≤ R.frames) (hlocals : W + (maxL + 11) + rm.locals ≤ R.locals)
    (hws : ∀ w ∈ ws, ∀ a' U, s.WarmedH U.vm → w.before a' U = true) (hcode : Cond.code y bytes maxL ret ∈ ws) (hinit : ∀ a' U, s.WarmedH U.vm → (Cond.initialized y.cls).before a' U = true) :
    Back l R p e below s sargs y len W (PreO R rm Pc) (PostOf Qc mc ms free) := by
  refine Back.of_free (S := headSpec ws rm) (P := Pc) (K := fun _ _ _ _ _ => True) (Q := fun a st o t => Qc a st o t ∧ ∃ L, FrameEnd st o t L mc ms ∧ ∀ q ∈ L, free q.base) (bytes := bytes) (maxL := maxL) (ret := ret)
    (E := fun a st o t L k n => k = mc ∧ n = ms ∧ ∀ q ∈ L, free q.base) hM hframes hlocals ?_ ?_ (fun _ _ _ _ _ _ _ _ _ => trivial) ?_ ?_
  · intro m meth c A a X hp
    exact ⟨atoms_intro fun w hw => hws w hw _ _ X.warmed, hws _ hcode _ _ X.warmed, hinit _ _ X.warmed, hp.1, hp.2.1⟩
  · intro m meth c A a g mk X hp
    exact hblind _ _ _ _ hp.2.2
  · intro a st o t ⟨hq, L, hF, hL⟩
    exact ⟨L, mc, ms, hF, rfl, rfl, hL⟩
  · intro m meth c A a g mk v t L k n X hp hq hF ⟨e1, e2, hL⟩
    subst e1; subst e2
    exact ⟨g, mk, t, L, rfl, rfl, hq.1, rfl, hL, rfl, rfl⟩
theorem blind_Pc {av : List Value} {E : EV} {σ : St} : FrameBlind (va_Pc av (fun U => Rel E σ U.heap ∧ KB E U)) := fun a U g mk h => ⟨h.1, h.2.1, KB.same (u := U) (U := U.calling g mk a) rfl rfl h.2.2⟩
/-- a receiver of a class for which the method named x is y -/
def RV (σ : St) (a : Nat) (x y : MethodName) : Prop := ∃ (c : Nat) (C : String) (T : u_T) (N : Nat), (sk σ a).1 = c ∧ c < 99 ∧ CL[c]? = some (C, T, N) ∧ Cond.selects C x y ∈ lw_all
theorem RV.of {σ : St} {a : Nat} {x y : MethodName} (c : Nat) {C : String} {T : u_T} {N : Nat} (hk : (sk σ a).1 = c) (h99 : Nat.blt c 99 = true) (hc : CL[c]? = some (C, T, N)) (w : Cond.selects C x y ∈ lw_all) : RV σ a x y := ⟨c, C, T, N, hk, blt_t.mp h99, hc, w⟩
section CA
variable {X : CX} {E E' : EV} {cc : ByteArray} {nL : Nat} {ret ret2 : Option FieldType} {own nm : String} {n0 s0 fr lo fr2 lo2 : Nat} {Q : State → Prop} {σ σ1 : St} {pc : Nat} {L : LV} {rest : List TV} {y : MethodName} {c2 : ByteArray} {nL2 idx : Nat} {As : List TV} {rv : Option TV}
/-- what a call asks of its callee's words and room -/
def CW (X : CX) (fr lo : Nat) (y : MethodName) (c2 : ByteArray) (nL2 : Nat) (ret2 : Option FieldType) (fr2 lo2 n : Nat) : Prop :=
  Cond.code y c2 nL2 ret2 ∈ lw_all ∧ Cond.initialized y.cls ∈ lw_all ∧ (y.cls ≠ "java/lang/invoke/MethodHandle" ∧ y.cls ≠ "java/lang/invoke/VarHandle" ∧ (parseMethodDescriptor y.desc).map (fun d => d.parameters.length) = some n) ∧ fr2 + 1 ≤ fr ∧ 8 + (nL2 + 11) + lo2 ≤ lo
theorem z_K {len : Nat} (B : FX X E cc nL ret own nm n0 s0 fr lo) {n : Nat} (hC : CT (xL X) E' y c2 nL2 ret2 fr2 lo2 As σ rv σ1) (hW : CW X fr lo y c2 nL2 ret2 fr2 lo2 n) :
    Back (xL X) (xR X) (xP X) (xE X) (xB X) (xS X) (xA X) y len 8 (PreO (xR X) ({ frames := fr2, cells := eMx E' - sn σ, slots := eMs E' - ss σ, locals := lo2 } : Room) (va_Pc (As.map (toV (eAd E'))) (fun U => Rel E' σ U.heap ∧ KB E' U))) (PostOf (QC E' σ rv σ1) (sn σ1 - sn σ) (ss σ1 - ss σ) (eA E')) := by
  have hts := B.2.2.2.2.2.2.2.1
  have hR := B.2.2.2.2.2.2.2.2.2.2.1
  obtain ⟨w1, w2, -, w3, w4⟩ := hW
  refine z_back (bytes := c2) (maxL := nL2) (ret := ret2) hC blind_Pc (by rw [hR]; exact w3) (by rw [hR]; exact w4) (pay_in hts (lw_meth w1)) List.mem_cons_self (fun a' U hW => word_at hW (Or.inl (by first | rfl | simp [Cond.onTables, Cond.keeps, Cond.steady])) (hts _ w2))
/-- behind a call -/
theorem z_fin {len : Nat} (B : FX X E cc nL ret own nm n0 s0 fr lo) (hX : EX E E' σ σ1) {H : Heap} {locs : List Loc} {ls : Array Slot} (hl : lv_has ls nL (lmp (eAd E) L)) (hR : Rel E σ H) (hS : va_S (eA E) (xS X).heap H locs) (h1 : n0 ≤ sn σ) (h2 : s0 ≤ ss σ)
    {st : List TV} (hcall : ∀ T : State, T.heap = H → Stand (xP X) (xL X) (xE X) (xR X) (xS X) (xM X) (xA X) (xB X) (xH X) (xC X) T locs (sn σ - n0) (ss σ - s0) → (T.heap = H → (sn σ - n0) + (eMx E' - sn σ) ≤ (xR X).cells ∧ (ss σ - s0) + (eMs E' - ss σ) ≤ (xR X).slots ∧ ∀ vm₁, (xS X).WarmedH vm₁ → va_Pc (As.map (toV (eAd E'))) (fun U => Rel E' σ U.heap ∧ KB E' U) (As.map (toV (eAd E'))).toArray (T.setVm vm₁)) →
      ∃ (v : Option Value) (vm₁ : Vm) (Z : Pt), (xS X).WarmedH vm₁ ∧ Stand (xP X) (xL X) (xE X) (xR X) (xS X) (xM X) (xA X) (xB X) (xH X) (xC X) Z.U Z.locs Z.cells Z.slots ∧ PostOf (QC E' σ rv σ1) (sn σ1 - sn σ) (ss σ1 - ss σ) (eA E') ⟨T.setVm vm₁, locs, sn σ - n0, ss σ - s0⟩ (As.map (toV (eAd E'))).toArray v Z ∧
        ∀ target, Steps (xP X).tables (xE X) (xB X) (Z.U.setTop (F0 (xM X) (pc + len) ls (v.toList ++ rest.map (toV (eAd E))))) target → Steps (xP X).tables (xE X) (xB X) (T.setTop (F0 (xM X) pc ls (st.map (toV (eAd E))))) target)
    (kk : J X E n0 s0 nL Q σ1 (pc + len) L (rv.toList ++ rest)) :
    W (xP X) (xL X) (xE X) (xR X) (xS X) (xM X) (xA X) (xB X) (xH X) (xC X) H locs (sn σ - n0) (ss σ - s0) Q (F0 (xM X) pc ls (st.map (toV (eAd E)))) := by
  intro T hT S
  have hKB := B.2.2.2.2.2.2.2.2.1
  have hRm := B.2.2.2.2.2.2.2.2.2.2.1
  have r3 := hR.2.2.1
  obtain ⟨f, hE', -, -⟩ := id hX
  have eM : eMx E' = eMx E ∧ eMs E' = eMs E ∧ eAd E' = eAd E ∧ eA E' = eA E := by rw [hE']; exact ⟨rfl, rfl, rfl, rfl⟩
  obtain ⟨v, vm₁, ⟨U', l2, c2, s2⟩, hW₁, X', ⟨g', mk, t, Lc, e1, e2, ⟨hv, hR1, hn1, hs1, hF⟩, g1, hL, g2, g3⟩, st⟩ := hcall T hT S (fun hT => by
    rw [hRm, eM.1, eM.2.1]
    refine ⟨?_, ?_, fun vm₁ hW => ⟨rfl, ?_, ?_⟩⟩
    · show (sn σ - n0) + (eMx E - sn σ) ≤ eMx E - n0; omega
    · show (ss σ - s0) + (eMs E - ss σ) ≤ eMs E - s0; omega
    · show Rel E' σ T.heap
      rw [hT]
      exact hX.rel hR
    · exact hX.kb (hKB.go (U := T.setVm vm₁) hW hT hS))
  dsimp only [Pt.U, Pt.locs, Pt.cells, Pt.slots] at X' e1 e2 g1 g2 g3 st
  subst g1; subst g2; subst g3
  cases hv
  have hF1 : va_F (eA E) (T.setVm vm₁) t := by rw [← eM.2.2.2]; exact hF
  have hRE : Rel E σ1 U'.heap := by rw [e1]; exact hX.back hR.2.2.2.2.2 hR1
  have hS1 : va_S (eA E) (xS X).heap U'.heap (locs ++ Lc) := by
    have z1 : H.size ≤ t.heap.size := by have := hF1.1; rwa [show (T.setVm vm₁).heap = H from hT] at this
    refine ⟨by rw [e1]; exact Nat.le_trans hS.1 z1, fun q q1 q2 => ?_, fun q hq => ?_⟩
    · rw [e1]
      have := hF1.2 q (by rw [show (T.setVm vm₁).heap = H from hT]; exact Nat.lt_of_lt_of_le q1 hS.1) q2
      rw [this, show (T.setVm vm₁).heap = H from hT]
      exact hS.2.1 q q1 q2
    · rcases List.mem_append.mp hq with q1 | q1
      · exact hS.2.2 q q1
      · rw [← eM.2.2.2]; exact hL q q1
  have k2 := kk U'.heap (locs ++ Lc) ls hl hRE hS1 (Nat.le_trans h1 hn1) (Nat.le_trans h2 hs1)
  rw [show sn σ1 - n0 = (sn σ - n0) + (sn σ1 - sn σ) by omega, show ss σ1 - s0 = (ss σ - s0) + (ss σ1 - ss σ) by omega] at k2
  obtain ⟨t2, a1, b1⟩ := k2 U' rfl X'
  refine ⟨t2, st t2 ?_, b1⟩
  have hst : (Option.map (toV (eAd E')) rv).toList ++ rest.map (toV (eAd E)) = (rv.toList ++ rest).map (toV (eAd E)) := by
    rw [eM.2.2.1]
    cases rv <;> simp
  rw [hst]
  exact a1
theorem z_recv (B : FX X E cc nL ret own nm n0 s0 fr lo) {H : Heap} (hR : Rel E σ H) {a c N : Nat} {C : String} {T : u_T} (hka : (sk σ a).1 = c) (h99 : c < 99) (hc : CL[c]? = some (C, T, N)) : ∃ cell : Cell, H[eAd E a]? = some cell ∧ cell.vm.isStatics = false ∧ (xS X).vm.findClass C = some cell.cls :=
  va_recv (q := (C, T, N)) B.2.2.2.2.2.2.2.2.1.1.1 hR.1 hc ((wof_at (hR.lt (a := a) (by rw [hka]; omega))).trans (by rw [cof_o hka (by omega)]))
theorem rest_le {ad : Nat → Nat} {m : MethodId} {pc : Nat} {ls : Array Slot} {st : List Value} {rest : List TV} (h : Nat.ble ((rest.map tcat).sum) 8 = true) : 2 * (F0 m pc ls st).monitorRoom + ((rest.map (toV ad)).map fun v => v.category).sum ≤ 8 := by
  rw [toV_sum]
  show 2 * 0 + _ ≤ 8
  have := Nat.le_of_ble_eq_true h
  omega

theorem r_callV (B : FX X E cc nL ret own nm n0 s0 fr lo) {a : Nat} {o : Option Nat} {st : List TV} (hst : st = As.reverse ++ vr o :: rest) (ho : o = some a) (hX : EX E E' σ σ1) (hC : CT (xL X) E' y c2 nL2 ret2 fr2 lo2 (vr (some a) :: As) σ rv σ1) (hW : CW X fr lo y c2 nL2 ret2 fr2 lo2 As.length) (hv : eSk E σ → RV σ a y y) (w1 : Cond.methodLink own idx y ∈ lw_all) (w2 : Cond.instanceMethod y ∈ lw_all)
    (hr : Nat.ble ((rest.map tcat).sum) 8 = true) (d : decode cc pc = .ok (.invokevirtual idx, 3)) (kk : J X E n0 s0 nL Q σ1 (pc + 3) L (rv.toList ++ rest)) : J X E n0 s0 nL Q σ pc L st := by
  subst hst
  subst ho
  intro H locs ls hl hR hS h1 h2
  have hts := B.2.2.2.2.2.2.2.1
  have hK := z_K (len := 3) B hC hW
  obtain ⟨c, C, T, N, hk, h99, hc, w3⟩ := hv hR.2.2.2.2.2
  obtain ⟨cellB, hcB, hoB, hclB⟩ := z_recv B hR hk h99 hc
  obtain ⟨f, rfl, hf1, hf2⟩ := id hX
  obtain ⟨v1, v2, v3, -, -⟩ := hW
  refine z_fin (len := 3) (As := vr (some a) :: As) (rv := rv) B hX hl hR hS h1 h2 (fun T hT S hp => ?_) kk
  obtain ⟨p1, p2, p3⟩ := hp hT
  refine callV S B.1 (C := C) (bytes := c2) (maxL := nL2) (ret := ret2) B.2.2.2.2.1 (hts _ w1) (hts _ w2) (hts _ w3) (hts _ v1) ⟨v3.1, v3.2.1⟩ hK (b := eAd E a) (by rw [hT]; exact hcB) hoB hclB (g := F0 (xM X) pc ls _) rfl (hl.1.trans B.2.2.2.1.symm) (argsL := As.map (toV (eAd E))) (rest := rest.map (toV (eAd E))) (fun sig h => by have h5 := v3.2.2; rw [h] at h5; rw [List.length_map]; exact (Option.some.inj h5).symm) ?_ (rest_le hr) (by rw [B.2.1]; exact d) ?_
  · simp [toV, va_rf]
  · intro vm₁ hw
    exact ⟨p1, p2, p3 vm₁ hw⟩
theorem r_callVN (B : FX X E cc nL ret own nm n0 s0 fr lo) {a : Nat} {host : String} {o : Option Nat} {st : List TV} (hst : st = As.reverse ++ vr o :: rest) (ho : o = some a) (hX : EX E E' σ σ1) (hC : CT (xL X) E' y c2 nL2 ret2 fr2 lo2 (vr (some a) :: As) σ rv σ1) (hW : CW X fr lo y c2 nL2 ret2 fr2 lo2 As.length) (hv : eSk E σ → RV σ a y y) (w1 : Cond.methodLinkNest own idx y host ∈ lw_nest) (w2 : Cond.instanceMethod y ∈ lw_all)
    (hr : Nat.ble ((rest.map tcat).sum) 8 = true) (d : decode cc pc = .ok (.invokevirtual idx, 3)) (kk : J X E n0 s0 nL Q σ1 (pc + 3) L (rv.toList ++ rest)) : J X E n0 s0 nL Q σ pc L st := by
  subst hst
  subst ho
  intro H locs ls hl hR hS h1 h2
  have hts := B.2.2.2.2.2.2.2.1
  have hK := z_K (len := 3) B hC hW
  obtain ⟨c, C, T, N, hk, h99, hc, w3⟩ := hv hR.2.2.2.2.2
  obtain ⟨cellB, hcB, hoB, hclB⟩ := z_recv B hR hk h99 hc
  obtain ⟨f, rfl, hf1, hf2⟩ := id hX
  obtain ⟨v1, v2, v3, -, -⟩ := hW
  refine z_fin (len := 3) (As := vr (some a) :: As) (rv := rv) B hX hl hR hS h1 h2 (fun T hT S hp => ?_) kk
  obtain ⟨p1, p2, p3⟩ := hp hT
  refine va_callVN S B.1 (C := C) (bytes := c2) (maxL := nL2) (ret := ret2) B.2.2.2.2.1 (va_Nw.use rfl (B.2.2.2.2.2.2.2.2.1.1.2.1 _ w1)) (hts _ w2) (hts _ w3) (hts _ v1) ⟨v3.1, v3.2.1⟩ hK (b := eAd E a) (by rw [hT]; exact hcB) hoB hclB (g := F0 (xM X) pc ls _) rfl (hl.1.trans B.2.2.2.1.symm) (argsL := As.map (toV (eAd E))) (rest := rest.map (toV (eAd E))) (fun sig h => by have h5 := v3.2.2; rw [h] at h5; rw [List.length_map]; exact (Option.some.inj h5).symm) ?_ (rest_le hr) (by rw [B.2.1]; exact d) ?_
  · simp [toV, va_rf]
  · intro vm₁ hw
    exact ⟨p1, p2, p3 vm₁ hw⟩
theorem r_callU (B : FX X E cc nL ret own nm n0 s0 fr lo) {a : Nat} {owner : String} {x : MethodName} {o : Option Nat} {st : List TV} (hst : st = As.reverse ++ vr o :: rest) (ho : o = some a) (hX : EX E E' σ σ1) (hC : CT (xL X) E' y c2 nL2 ret2 fr2 lo2 (vr (some a) :: As) σ rv σ1) (hW : CW X fr lo y c2 nL2 ret2 fr2 lo2 As.length) (hv : eSk E σ → RV σ a x y) (w1 : Cond.methodLink own idx x ∈ lw_all) (w2 : Cond.instanceMethod y ∈ lw_all) (w4 : Cond.sameMethod x.cls owner x.name x.desc ∈ lw_all) (w5 : Cond.declares ⟨owner, x.name, x.desc⟩ ∈ lw_nest) (w6 : owner ≠ "java/lang/invoke/MethodHandle" ∧ owner ≠ "java/lang/invoke/VarHandle") (hxy : x.desc = y.desc)
    (hr : Nat.ble ((rest.map tcat).sum) 8 = true) (d : decode cc pc = .ok (.invokevirtual idx, 3)) (kk : J X E n0 s0 nL Q σ1 (pc + 3) L (rv.toList ++ rest)) : J X E n0 s0 nL Q σ pc L st := by
  subst hst
  subst ho
  intro H locs ls hl hR hS h1 h2
  have hts := B.2.2.2.2.2.2.2.1
  have hK := z_K (len := 3) B hC hW
  obtain ⟨c, C, T, N, hk, h99, hc, w3⟩ := hv hR.2.2.2.2.2
  obtain ⟨cellB, hcB, hoB, hclB⟩ := z_recv B hR hk h99 hc
  obtain ⟨f, rfl, hf1, hf2⟩ := id hX
  obtain ⟨v1, v2, v3, -, -⟩ := hW
  refine z_fin (len := 3) (As := vr (some a) :: As) (rv := rv) B hX hl hR hS h1 h2 (fun T hT S hp => ?_) kk
  obtain ⟨p1, p2, p3⟩ := hp hT
  refine va_callVU S B.1 (C := C) (owner := owner) (x := x) (bytes := c2) (maxL := nL2) (ret := ret2) B.2.2.2.2.1 (hts _ w1) (hts _ w4) (va_Decl.abs (B.2.2.2.2.2.2.2.2.1.1.2.1 _ w5)) w6 (hts _ w3) (hts _ w2) (hts _ v1) hK (b := eAd E a) (by rw [hT]; exact hcB) hoB hclB (g := F0 (xM X) pc ls _) rfl (hl.1.trans B.2.2.2.1.symm) (argsL := As.map (toV (eAd E))) (rest := rest.map (toV (eAd E))) (fun sig h => by have h5 := v3.2.2; rw [← hxy, h] at h5; rw [List.length_map]; exact (Option.some.inj h5).symm) ?_ (rest_le hr) (by rw [B.2.1]; exact d) ?_
  · simp [toV, va_rf]
  · intro vm₁ hw
    exact ⟨p1, p2, p3 vm₁ hw⟩
theorem r_callS (B : FX X E cc nL ret own nm n0 s0 fr lo) {st : List TV} (hst : st = As.reverse ++ rest) (hX : EX E E' σ σ1) (hC : CT (xL X) E' y c2 nL2 ret2 fr2 lo2 As σ rv σ1) (hW : CW X fr lo y c2 nL2 ret2 fr2 lo2 As.length) (w1 : Cond.methodLink own idx y ∈ lw_all) (w2 : Cond.static y ∈ lw_all)
    (hr : Nat.ble ((rest.map tcat).sum) 8 = true) (d : decode cc pc = .ok (.invokestatic idx, 3)) (kk : J X E n0 s0 nL Q σ1 (pc + 3) L (rv.toList ++ rest)) : J X E n0 s0 nL Q σ pc L st := by
  subst hst
  intro H locs ls hl hR hS h1 h2
  have hts := B.2.2.2.2.2.2.2.1
  have hK := z_K (len := 3) B hC hW
  obtain ⟨f, rfl, hf1, hf2⟩ := id hX
  obtain ⟨v1, v2, v3, -, -⟩ := hW
  refine z_fin (len := 3) (As := As) (rv := rv) B hX hl hR hS h1 h2 (fun T hT S hp => ?_) kk
  obtain ⟨p1, p2, p3⟩ := hp hT
  refine callS S B.1 (bytes := c2) (maxL := nL2) (ret := ret2) B.2.2.2.2.1 (hts _ w1) (hts _ w2) (hts _ v2) (hts _ v1) ⟨v3.1, v3.2.1⟩ hK (g := F0 (xM X) pc ls _) rfl (hl.1.trans B.2.2.2.1.symm) (argsL := As.map (toV (eAd E))) (rest := rest.map (toV (eAd E))) (fun sig h => by have h5 := v3.2.2; rw [h] at h5; rw [List.length_map]; exact (Option.some.inj h5).symm) ?_ (rest_le hr) (by rw [B.2.1]; exact d) ?_
  · simp
  · intro vm₁ hw
    exact ⟨p1, p2, p3 vm₁ hw⟩
theorem r_callSN (B : FX X E cc nL ret own nm n0 s0 fr lo) {host : String} {st : List TV} (hst : st = As.reverse ++ rest) (hX : EX E E' σ σ1) (hC : CT (xL X) E' y c2 nL2 ret2 fr2 lo2 As σ rv σ1) (hW : CW X fr lo y c2 nL2 ret2 fr2 lo2 As.length) (w1 : Cond.methodLinkNest own idx y host ∈ lw_nest) (w2 : Cond.static y ∈ lw_all)
    (hr : Nat.ble ((rest.map tcat).sum) 8 = true) (d : decode cc pc = .ok (.invokestatic idx, 3)) (kk : J X E n0 s0 nL Q σ1 (pc + 3) L (rv.toList ++ rest)) : J X E n0 s0 nL Q σ pc L st := by
  subst hst
  intro H locs ls hl hR hS h1 h2
  have hts := B.2.2.2.2.2.2.2.1
  have hK := z_K (len := 3) B hC hW
  obtain ⟨f, rfl, hf1, hf2⟩ := id hX
  obtain ⟨v1, v2, v3, -, -⟩ := hW
  refine z_fin (len := 3) (As := As) (rv := rv) B hX hl hR hS h1 h2 (fun T hT S hp => ?_) kk
  obtain ⟨p1, p2, p3⟩ := hp hT
  refine va_callSN S B.1 (bytes := c2) (maxL := nL2) (ret := ret2) B.2.2.2.2.1 (va_Nw.use rfl (B.2.2.2.2.2.2.2.2.1.1.2.1 _ w1)) (hts _ w2) (hts _ v2) (hts _ v1) ⟨v3.1, v3.2.1⟩ hK (g := F0 (xM X) pc ls _) rfl (hl.1.trans B.2.2.2.1.symm) (argsL := As.map (toV (eAd E))) (rest := rest.map (toV (eAd E))) (fun sig h => by have h5 := v3.2.2; rw [h] at h5; rw [List.length_map]; exact (Option.some.inj h5).symm) ?_ (rest_le hr) (by rw [B.2.1]; exact d) ?_
  · simp
  · intro vm₁ hw
    exact ⟨p1, p2, p3 vm₁ hw⟩
theorem r_callI (B : FX X E cc nL ret own nm n0 s0 fr lo) {a : Nat} {o : Option Nat} {st : List TV} (hst : st = As.reverse ++ vr o :: rest) (ho : o = some a) (hX : EX E E' σ σ1) (hC : CT (xL X) E' y c2 nL2 none fr2 lo2 (vr (some a) :: As) σ none σ1) (hW : CW X fr lo y c2 nL2 none fr2 lo2 As.length) (hy : y.name = "<init>") (w1 : Cond.methodLink own idx y ∈ lw_all) (w2 : Cond.instanceMethod y ∈ lw_all)
    (hr : Nat.ble ((rest.map tcat).sum) 8 = true) (d : decode cc pc = .ok (.invokespecial idx, 3)) (kk : J X E n0 s0 nL Q σ1 (pc + 3) L rest) : J X E n0 s0 nL Q σ pc L st := by
  subst hst
  subst ho
  intro H locs ls hl hR hS h1 h2
  have hts := B.2.2.2.2.2.2.2.1
  have hK := z_K (len := 3) B hC hW
  obtain ⟨f, rfl, hf1, hf2⟩ := id hX
  obtain ⟨v1, v2, v3, -, -⟩ := hW
  refine z_fin (len := 3) (As := vr (some a) :: As) (rv := none) B hX hl hR hS h1 h2 (fun T hT S hp => ?_) kk
  obtain ⟨p1, p2, p3⟩ := hp hT
  refine callI S B.1 (bytes := c2) (maxL := nL2) B.2.2.2.2.1 hy (hts _ w1) (hts _ w2) (hts _ v1) ⟨v3.1, v3.2.1⟩ hK (g := F0 (xM X) pc ls _) rfl (hl.1.trans B.2.2.2.1.symm) (a := eAd E a) (argsL := As.map (toV (eAd E))) (rest := rest.map (toV (eAd E))) (fun sig h => by have h5 := v3.2.2; rw [h] at h5; rw [List.length_map]; exact (Option.some.inj h5).symm) ?_ (rest_le hr) (by rw [B.2.1]; exact d) ?_
  · simp [toV, va_rf]
  · intro vm₁ hw
    exact ⟨p1, p2, p3 vm₁ hw⟩
theorem r_callIN (B : FX X E cc nL ret own nm n0 s0 fr lo) {a : Nat} {host : String} {o : Option Nat} {st : List TV} (hst : st = As.reverse ++ vr o :: rest) (ho : o = some a) (hX : EX E E' σ σ1) (hC : CT (xL X) E' y c2 nL2 none fr2 lo2 (vr (some a) :: As) σ none σ1) (hW : CW X fr lo y c2 nL2 none fr2 lo2 As.length) (hy : y.name = "<init>") (w1 : Cond.methodLinkNest own idx y host ∈ lw_nest) (w2 : Cond.instanceMethod y ∈ lw_all)
    (hr : Nat.ble ((rest.map tcat).sum) 8 = true) (d : decode cc pc = .ok (.invokespecial idx, 3)) (kk : J X E n0 s0 nL Q σ1 (pc + 3) L rest) : J X E n0 s0 nL Q σ pc L st := by
  subst hst
  subst ho
  intro H locs ls hl hR hS h1 h2
  have hts := B.2.2.2.2.2.2.2.1
  have hK := z_K (len := 3) B hC hW
  obtain ⟨f, rfl, hf1, hf2⟩ := id hX
  obtain ⟨v1, v2, v3, -, -⟩ := hW
  refine z_fin (len := 3) (As := vr (some a) :: As) (rv := none) B hX hl hR hS h1 h2 (fun T hT S hp => ?_) kk
  obtain ⟨p1, p2, p3⟩ := hp hT
  refine va_callIN S B.1 (bytes := c2) (maxL := nL2) B.2.2.2.2.1 hy (va_Nw.use rfl (B.2.2.2.2.2.2.2.2.1.1.2.1 _ w1)) (hts _ w2) (hts _ v1) ⟨v3.1, v3.2.1⟩ hK (g := F0 (xM X) pc ls _) rfl (hl.1.trans B.2.2.2.1.symm) (a := eAd E a) (argsL := As.map (toV (eAd E))) (rest := rest.map (toV (eAd E))) (fun sig h => by have h5 := v3.2.2; rw [h] at h5; rw [List.length_map]; exact (Option.some.inj h5).symm) ?_ (rest_le hr) (by rw [B.2.1]; exact d) ?_
  · simp [toV, va_rf]
  · intro vm₁ hw
    exact ⟨p1, p2, p3 vm₁ hw⟩
theorem r_objInit (B : FX X E cc nL ret own nm n0 s0 fr lo) {a : Nat} {o : Option Nat} (ho : o = some a) (w1 : Cond.methodLink own idx Lib.objectInit ∈ lw_all) (w2 : Cond.instanceMethod Lib.objectInit ∈ lw_all) (w3 : Cond.code Lib.objectInit ⟨#[0xb1]⟩ 1 none ∈ lw_all) (hf : 1 ≤ fr) (hlo : 20 ≤ lo) (hr : Nat.ble ((rest.map tcat).sum) 8 = true) (d : decode cc pc = .ok (.invokespecial idx, 3)) (kk : J X E n0 s0 nL Q σ (pc + 3) L rest) : J X E n0 s0 nL Q σ pc L (vr o :: rest) := by
  subst ho
  intro H locs ls hl hR hS h1 h2
  have hts := B.2.2.2.2.2.2.2.1
  have hRm := B.2.2.2.2.2.2.2.2.2.2.1
  exact W.objInit B.1 B.2.1 B.2.2.2.2.1 (hts _ w1) (hts _ w2) (hts _ w3) (g := F0 (xM X) pc ls _) rfl (hl.1.trans B.2.2.2.1.symm) rfl d (by rw [hRm]; exact hf) (by rw [hRm]; exact Nat.le_trans (Nat.add_le_add_right (rest_le (ad := eAd E) hr) 12) hlo) (kk H locs ls hl hR hS h1 h2)
end CA

