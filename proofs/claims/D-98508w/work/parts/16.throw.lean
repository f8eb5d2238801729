/-! ===== methods that throw (vz_: the kit's vx_ with the thrown cell's address told, and room apart from use; vz_back is turned from kit/laws/EXCEPTIONS) ===== -/
set_option maxRecDepth 100000
def vz_T (XC : String → Addr → State → State → Prop) (st : State) (q : Addr) (t : State) (mc ms : Nat) (free : Addr → Prop) : Prop :=
  ∃ (E : String) (ce : Cell) (L : List Loc), XC E q st t ∧ t.heap[q]? = some ce ∧ ce.vm = .none ∧ st.vm.findClass E = some ce.cls ∧ st.WarmedH t.vm ∧ st.sameButNew ({ t with vm := st.vm } : State) L mc ms ∧ ∀ z ∈ L, free z.base
def vz_Q (Qc : Array Value → State → Outcome → State → Prop) (XC : String → Addr → State → State → Prop) (mc ms : Nat) (free : Addr → Prop) : Array Value → State → Outcome → State → Prop := fun a st o t =>
  (Qc a st o t ∧ ∃ L, FrameEnd st o t L mc ms ∧ ∀ q ∈ L, free q.base) ∨ ∃ q, o = .threw q ∧ vz_T XC st q t mc ms free
def vz_Met (l : Launch) (y : MethodName) (ws : List Cond) (rm : Room) (Pc : Array Value → State → Prop) (Qc : Array Value → State → Outcome → State → Prop) (XC : String → Addr → State → State → Prop) (mc ms : Nat) (free : Addr → Prop) : Prop :=
  MetFree l y (headSpec ws rm) Pc (fun _ _ _ _ _ => True) (vz_Q Qc XC mc ms free)
def vz_Post (XC : String → Addr → State → State → Prop) (mc ms : Nat) (free : Addr → Prop) : Pt → Array Value → Addr → Pt → Prop := fun A a q B =>
  ∃ (g : JFrame) (mk : MethodId) (t : State) (L : List Loc) (E : String) (ce : Cell), B.U.heap = t.heap ∧ B.U.vm = t.vm ∧ XC E q (A.U.calling g mk a) t ∧ t.heap[q]? = some ce ∧ ce.vm = .none ∧ A.U.vm.findClass E = some ce.cls ∧ B.locs = A.locs ++ L ∧ (∀ z ∈ L, free z.base) ∧ B.cells = A.cells + mc ∧ B.slots = A.slots + ms
section PayerZ
variable {l : Launch} {R : Room} {p : Program} {e : Env} {below : List Frame} {s : State} {sargs : Array Value} {y : MethodName} {len W9 : Nat}
theorem vz_back {ws : List Cond} {rm : Room} {Pc : Array Value → State → Prop} {Qc : Array Value → State → Outcome → State → Prop} {XC : String → Addr → State → State → Prop} {mc ms : Nat} {free : Addr → Prop} {bytes : ByteArray} {maxL : Nat} {ret : Option FieldType}
    (hM : vz_Met l y ws rm Pc Qc XC mc ms free) (hblind : FrameBlind Pc) 
    (hframes : rm.frames + 1 ≤ R.frames) (hlocals : W9 + (maxL + 11) + rm.locals ≤ R.locals)
    (hws : ∀ w ∈ ws, ∀ a' U, s.WarmedH U.vm → w.before a' U = true) (hcode : Cond.code y bytes maxL ret ∈ ws) (hinit : ∀ a' U, s.WarmedH U.vm → (Cond.initialized y.cls).before a' U = true) :
    vx_Back l R p e below s sargs y len W9 (PreO R rm Pc) (PostOf Qc mc ms free) (vz_Post XC mc ms free) := by
  intro m meth c A g ig mk a X hg hsize hdg hW hn hp
  have h1 : (headSpec ws rm).pre.before a A.U = true := atoms_intro fun w hw => hws w hw _ _ X.warmed
  have h2 : (Cond.code y bytes maxL ret).before a A.U = true := hws _ hcode _ _ X.warmed
  have h3 : (Cond.initialized y.cls).before a A.U = true := hinit _ _ X.warmed
  have h4 : A.cells + (headSpec ws rm).room.cells ≤ R.cells := hp.1
  have h5 : A.slots + (headSpec ws rm).room.slots ≤ R.slots := hp.2.1
  have hPc : Pc a (A.U.calling g mk a) := hblind _ _ _ _ hp.2.2
  obtain ⟨U, Ls, c0, s0⟩ := A
  dsimp only [Pt.U, Pt.locs, Pt.cells, Pt.slots] at h1 h2 h3 h4 h5 X hn hPc ⊢
  obtain ⟨methY, cY, hmY, hcY, -, hlY, -, -, -, -⟩ := Cond.code_spec hn h2
  obtain ⟨kY, hkY, -⟩ := className_of_methodNamed hn
  have hinitY : kY.init = .initialized := Cond.initialized_spec (findClass_of_methodNamed hn) hkY h3
  have h : At U g.method c below := by rw [hg]; exact X.here
  have hlocals9 : W9 + (maxL + 11) + (headSpec ws rm).room.locals ≤ R.locals := hlocals
  have happ : (headSpec ws rm).appliesLoose y e.platform (U.calling g mk a) = true :=
    Spec.appliesLoose_calling (g := g) h hdg hn hkY hinitY
      (X.room_calling (g := g) (R' := (headSpec ws rm).room) hsize hmY hcY hframes (by rw [hlY]; omega) h4 h5) h1
  obtain ⟨mid, hmid⟩ := h.above
  have hfr : (U.setTop g).frames = (.java g :: mid) ++ below := by rw [State.frames_setTop' g h.top, hmid]; rfl
  obtain ⟨o, s₂, hsteps, -, hend, hq⟩ := Steps.callFree hM p X.admits X.cas X.clock (acts := []) hfr happ hPc trivial
  have hq' : vz_Q Qc XC mc ms free a (U.calling g mk a) o s₂ := hq
  rw [State.frames_setTop' g h.top] at hend
  obtain ⟨g₀, hg0⟩ := Option.isSome_iff_exists.mp h.top
  obtain ⟨r, hr⟩ := State.topJava?_eq_some.mp hg0
  have hr' : (({ U with heap := s₂.heap, slotsUsed := s₂.slotsUsed } : State).setVm s₂.vm).frames = .java g₀ :: r := hr
  rcases hq' with ⟨hqc, L, hfe, hL⟩ | ⟨q, rfl, E, ce, L, hx, hce, hcv, hcl, hW₂, hsm, hL⟩
  · obtain ⟨⟨v, rfl⟩, hW₂, e2, q2, q3, q4, q5, q6⟩ := id hfe
    have e3 : s₂ = ({ (U.calling g mk a).setFrames s₂.frames with heap := s₂.heap, slotsUsed := s₂.slotsUsed } : State).setVm s₂.vm := by
      have : s₂ = ({ s₂ with vm := (U.calling g mk a).vm } : State).setVm s₂.vm := rfl
      rw [e2] at this
      exact this
    obtain ⟨c₂, i₂, len₂, hc₂, hd₂, hf₂⟩ := hend
    have hW' : U.WarmedH s₂.vm := hW₂
    have hcc : c₂ = c := by
      have h1 : s₂.code? g.method = U.code? g.method := by
        rw [State.code?_eq, State.code?_eq, hW'.alike.method?]
      exact Option.some.inj (hc₂.symm.trans (h1.trans h.code))
    subst hcc
    have hlen : len₂ = len := by rw [hdg] at hd₂; cases hd₂; rfl
    subst hlen
    have hs₂ : s₂ = (({ U with heap := s₂.heap, slotsUsed := s₂.slotsUsed } : State).setVm s₂.vm).setTop { g with pc := g.pc + len₂, stack := v.toList ++ g.stack } := by
      refine e3.trans ?_
      rw [hf₂, State.calling_eq h.top, State.setFrames_setFrames, State.setTop_of_frames _ hr', hr]
      rfl
    have hsame : U.sameButNew ({ U with heap := s₂.heap, slotsUsed := s₂.slotsUsed } : State) L mc ms := by
      refine ⟨?_, q2, q3, q4, q5, q6⟩
      obtain ⟨t, ht, -⟩ := State.frames_cons hr
      show ({ U with heap := s₂.heap, slotsUsed := s₂.slotsUsed } : State) = { U.setFrames U.frames with heap := s₂.heap, slotsUsed := s₂.slotsUsed }
      rw [State.setFrames_self ht]
    subst hg
    refine Or.inl ⟨v, ⟨(({ U with heap := s₂.heap, slotsUsed := s₂.slotsUsed } : State).setVm s₂.vm), Ls ++ L, c0 + mc, s0 + ms⟩,
      ⟨X.admits, X.cas, X.clock, X.frames, X.room, X.hears, X.method, X.code, (X.here.setHeapUsed s₂.heap s₂.slotsUsed).setVm hW'.alike, X.tail, State.WarmedH.trans X.warmed hW', X.limits, X.bytes, X.same.trans (hsame.setVm s.vm)⟩,
      ⟨g, mk, s₂, L, rfl, rfl, hqc, rfl, hL, rfl, rfl⟩, ?_⟩
    show Steps p.tables e below _ ((({ U with heap := s₂.heap, slotsUsed := s₂.slotsUsed } : State).setVm s₂.vm).setTop { g with pc := g.pc + len₂, stack := v.toList ++ g.stack })
    rw [← hs₂]
    exact hsteps
  · obtain ⟨e2, q2, q3, q4, q5, q6⟩ := id hsm
    have e3 : s₂ = ({ (U.calling g mk a).setFrames s₂.frames with heap := s₂.heap, slotsUsed := s₂.slotsUsed } : State).setVm s₂.vm := by
      have : s₂ = ({ s₂ with vm := (U.calling g mk a).vm } : State).setVm s₂.vm := rfl
      rw [e2] at this
      exact this
    have hf₂ : s₂.frames = .throwing q :: .java g :: U.frames.tail := hend
    have hW' : U.WarmedH s₂.vm := hW₂
    have hs₂ : s₂ = ((({ U with heap := s₂.heap, slotsUsed := s₂.slotsUsed } : State).setVm s₂.vm).setTop g).pushFrame (.throwing q) := by
      refine e3.trans ?_
      rw [hf₂, State.calling_eq h.top, State.setFrames_setFrames, State.pushFrame, State.frames_setTop _ hr', State.setTop_of_frames _ hr', State.setFrames_setFrames, hr]
      rfl
    have hsame : U.sameButNew ({ U with heap := s₂.heap, slotsUsed := s₂.slotsUsed } : State) L mc ms := by
      refine ⟨?_, q2, q3, q4, q5, q6⟩
      obtain ⟨t, ht, -⟩ := State.frames_cons hr
      show ({ U with heap := s₂.heap, slotsUsed := s₂.slotsUsed } : State) = { U.setFrames U.frames with heap := s₂.heap, slotsUsed := s₂.slotsUsed }
      rw [State.setFrames_self ht]
    subst hg
    refine Or.inr ⟨q, ⟨(({ U with heap := s₂.heap, slotsUsed := s₂.slotsUsed } : State).setVm s₂.vm), Ls ++ L, c0 + mc, s0 + ms⟩,
      ⟨X.admits, X.cas, X.clock, X.frames, X.room, X.hears, X.method, X.code, (X.here.setHeapUsed s₂.heap s₂.slotsUsed).setVm hW'.alike, X.tail, State.WarmedH.trans X.warmed hW', X.limits, X.bytes, X.same.trans (hsame.setVm s.vm)⟩,
      ⟨g, mk, s₂, L, E, ce, rfl, rfl, hx, hce, hcv, hcl, rfl, hL, rfl, rfl⟩, ?_⟩
    show Steps p.tables e below _ (((({ U with heap := s₂.heap, slotsUsed := s₂.slotsUsed } : State).setVm s₂.vm).setTop g).pushFrame (.throwing q))
    rw [← hs₂]
    exact hsteps
end PayerZ
/-- a thrown cell, of the class xc -/
def XQ (E : EV) (σ0 : St) (a xc : Nat) (σ' : St) : String → Addr → State → State → Prop := fun En q st t => (∃ (T : u_T) (N : Nat), CL[xc]? = some (En, T, N)) ∧ xc < 99 ∧ q = eAd E a ∧ (sk σ' a).1 = xc ∧ Rel E σ' t.heap ∧ sn σ0 ≤ sn σ' ∧ ss σ0 ≤ ss σ' ∧ va_F (eA E) st t
abbrev OutX : Type := Option TV ⊕ (Nat × Nat)
def QX (E : EV) (σ0 : St) (rv : OutX) (σ' : St) : Array Value → State → Outcome → State → Prop := match rv with
  | .inl v => QC E σ0 v σ'
  | .inr _ => fun _ _ _ _ => False
def XX (E : EV) (σ0 : St) (rv : OutX) (σ' : St) : String → Addr → State → State → Prop := match rv with
  | .inl _ => fun _ _ _ _ => False
  | .inr q => XQ E σ0 q.1 q.2 σ'
/-- a contract of a method that may throw; what it does from σ -/
def CTX (l : Launch) (E : EV) (y : MethodName) (cc : ByteArray) (nL : Nat) (ret : Option FieldType) (fr lo : Nat) (As : List TV) (σ : St) (rv : OutX) (σ' : St) : Prop :=
  vz_Met l y (ws_ y cc nL ret) ({ frames := fr, cells := eMx E - sn σ, slots := eMs E - ss σ, locals := lo } : Room) (va_Pc (As.map (toV (eAd E))) (fun U => Rel E σ U.heap ∧ KB E U)) (QX E σ rv σ') (XX E σ rv σ') (sn σ' - sn σ) (ss σ' - ss σ) (eA E)
/-- one that returns -/
theorem CTX.ofCT {l : Launch} {E : EV} {y : MethodName} {cc : ByteArray} {nL : Nat} {ret : Option FieldType} {fr lo : Nat} {As : List TV} {σ σ' : St} {v : Option TV} (h : CT l E y cc nL ret fr lo As σ v σ') : CTX l E y cc nL ret fr lo As σ (.inl v) σ' := by
  intro p e h1 h2 h3 s m args below h4 h5 h6 h7
  obtain ⟨n, o, a, b, c, d⟩ := h p e h1 h2 h3 s m args below h4 h5 h6 h7
  exact ⟨n, o, a, b, c, Or.inl d⟩
/-- the end of a walk of a method that may throw -/
def QZ (X : CX) (E : EV) (σ0 : St) (rv : OutX) (σ' : St) : State → Prop := fun t =>
  ∃ o, t.status = .running ∧ Ended t (xB X) o ∧ vz_Q (QX E σ0 rv σ') (XX E σ0 rv σ') (sn σ' - sn σ0) (ss σ' - ss σ0) (eA E) (xA X) (xS X) o t
/-- the frame at pc, with a thrown over it -/
def JX (X : CX) (E : EV) (n0 s0 nL : Nat) (Q : State → Prop) (σ : St) (pc : Nat) (L : LV) (a : Nat) : Prop :=
  ∀ (H : Heap) (locs : List Loc) (ls : Array Slot) (rest : List Value), lv_has ls nL (lmp (eAd E) L) → Rel E σ H → va_S (eA E) (xS X).heap H locs → n0 ≤ sn σ → s0 ≤ ss σ →
    vx_W (xP X) (xL X) (xE X) (xR X) (xS X) (xM X) (xA X) (xB X) (xH X) (xC X) H locs (sn σ - n0) (ss σ - s0) Q (F0 (xM X) pc ls rest) (eAd E a)
theorem CTX.start {l : Launch} {E : EV} {y : MethodName} {cc : ByteArray} {nL : Nat} {ret : Option FieldType} {fr lo : Nat} {As : List TV} {σ σ' : St} {rv : OutX} (hE : GE E) (hy : plainName y.cls = true) (hn : Nat.ble ((As.map tcat).sum) nL = true) (L : LV) (hL : larg 0 As = L)
    (body : ∀ X : CX, xL X = l → FX X E cc nL ret y.cls y.name (sn σ) (ss σ) fr lo → (∀ x ∈ (xC X).exceptionTable.toList, False) → J X E (sn σ) (ss σ) nL (QZ X E σ rv σ') σ 0 L []) : CTX l E y cc nL ret fr lo As σ rv σ' := by
  refine MetFree.of_bodyS (code := cc) (maxLocals := nL) (ret := ret) hy ?_ ?_
  · intro args s m h hn
    obtain ⟨meth, c, h1, h2, h3, h4, h5, h6, -, -⟩ := Cond.code_spec hn (atoms_spec (ws := ws_ y cc nL ret) h _ List.mem_cons_self)
    exact ⟨meth, c, h1, h2, h3, h4, h5, h6⟩
  · intro p e s m args below meth c s₁ B hml hP _
    obtain ⟨rfl, hR, hK⟩ := hP
    have hts := atoms_spec (ws := ws_ y cc nL ret) B.pre
    have hh0 : s₁.heap = s.heap := by rw [B.state]; rfl
    have ht : ∀ x ∈ c.exceptionTable.toList, False := by
      obtain ⟨meth9, c9, h1, h2, -, -, -, -, h7, -⟩ := Cond.code_spec B.named (hts _ List.mem_cons_self)
      cases Option.some.inj (h1.symm.trans B.method)
      cases Option.some.inj (h2.symm.trans (Stand.of_body B).code)
      intro x hx
      rw [Array.isEmpty_iff.mp h7] at hx
      cases hx
    have hlen := arg_len (eAd E) As
    have h1 := body (p, l, e, _, s, m, _, below, meth, c) rfl ⟨B.exec, B.bytes, B.returns, hml, findClass_of_methodNamed B.named, B.notSynchronized, (name_of_methodNamed B.named B.method).1, fun w h => hts w (List.mem_cons_of_mem _ h), hK, hE, rfl, hR.2.1, hR.2.2.1.1⟩ ht
    have hl := lv_entry (As.map (toV (eAd E))) (n := nL) (by rw [hlen]; exact Nat.le_of_ble_eq_true hn)
    rw [← larg_eq, hL] at hl
    have h2 := h1 s.heap [] _ hl hR va_S.rf (Nat.le_refl _) (Nat.le_refl _)
    rw [Nat.sub_self, Nat.sub_self] at h2
    have h3 : entryFrame m (As.map (toV (eAd E))).toArray nL = _ := lg_entry_eq m (As.map (toV (eAd E))) nL
    obtain ⟨t, a1, o, b1, b2, b3⟩ := h2 s₁ hh0 (Stand.of_body B)
    refine ⟨t, o, ?_, b1, b2, b3⟩
    rw [h3]
    exact a1
/-- a body with handlers, that returns -/
theorem CT.startW {l : Launch} {E : EV} {y : MethodName} {cc : ByteArray} {nL : Nat} {ret : Option FieldType} {hh : List (Nat × Nat × Nat × Nat)} {fr lo : Nat} {As : List TV} {σ σ' : St} {rv : Option TV} (hE : GE E) (hy : plainName y.cls = true) (hn : Nat.ble ((As.map tcat).sum) nL = true) (L : LV) (hL : larg 0 As = L)
    (body : ∀ X : CX, xL X = l → FX X E cc nL ret y.cls y.name (sn σ) (ss σ) fr lo → (xC X).exceptionTable.toList = tableOf hh → J X E (sn σ) (ss σ) nL (QR X E σ rv σ') σ 0 L []) : Met l y (wsW_ y cc nL ret hh) ({ frames := fr, cells := eMx E - sn σ, slots := eMs E - ss σ, locals := lo } : Room) (va_Pc (As.map (toV (eAd E))) (fun U => Rel E σ U.heap ∧ KB E U)) (QC E σ rv σ') (sn σ' - sn σ) (ss σ' - ss σ) (eA E) := by
  refine MetFree.of_bodyS (code := cc) (maxLocals := nL) (ret := ret) hy ?_ ?_
  · intro args s m h hn
    obtain ⟨m9, meth, c, hn9, h1, h2, h3, h4, -, h5, h6, -⟩ := Cond.codeWith_spec (atoms_spec (ws := wsW_ y cc nL ret hh) h _ List.mem_cons_self)
    cases hn.symm.trans hn9
    exact ⟨meth, c, h1, h2, h3, h4, h5, h6⟩
  · intro p e s m args below meth c s₁ B hml hP _
    obtain ⟨rfl, hR, hK⟩ := hP
    have hts := atoms_spec (ws := wsW_ y cc nL ret hh) B.pre
    have hh0 : s₁.heap = s.heap := by rw [B.state]; rfl
    have ht := vx_table (x := y) B (hts _ List.mem_cons_self)
    have hlen := arg_len (eAd E) As
    have h1 := body (p, l, e, _, s, m, _, below, meth, c) rfl ⟨B.exec, B.bytes, B.returns, hml, findClass_of_methodNamed B.named, B.notSynchronized, (name_of_methodNamed B.named B.method).1, fun w h => hts w (List.mem_cons_of_mem _ h), hK, hE, rfl, hR.2.1, hR.2.2.1.1⟩ ht
    have hl := lv_entry (As.map (toV (eAd E))) (n := nL) (by rw [hlen]; exact Nat.le_of_ble_eq_true hn)
    rw [← larg_eq, hL] at hl
    have h2 := h1 s.heap [] _ hl hR va_S.rf (Nat.le_refl _) (Nat.le_refl _)
    rw [Nat.sub_self, Nat.sub_self] at h2
    have h3 : entryFrame m (As.map (toV (eAd E))).toArray nL = _ := lg_entry_eq m (As.map (toV (eAd E))) nL
    obtain ⟨t, a1, o, b1, b2, b3, b4⟩ := h2 s₁ hh0 (Stand.of_body B)
    refine ⟨t, o, ?_, b1, b2, b3, b4⟩
    rw [h3]
    exact a1
/-! a call's answer or what it throws -/
def bnx {α β : Type} (x : Option ((α ⊕ Nat) × St)) (g : Nat → St → Option β) (f : α → St → Option β) : Option β := match x with
  | none => none
  | some (.inl a, s) => f a s
  | some (.inr a, s) => g a s
theorem bnx_e {α β : Type} {x : Option ((α ⊕ Nat) × St)} {f : α → St → Option β} {g : Nat → St → Option β} {r : β} (h : bnx x g f = some r) : (∃ a s, x = some (.inr a, s) ∧ g a s = some r) ∨ (∃ a s, x = some (.inl a, s) ∧ f a s = some r) := by
  match x, h with
  | none, h => cases h
  | some (.inl a, s), h => exact Or.inr ⟨a, s, rfl, h⟩
  | some (.inr a, s), h => exact Or.inl ⟨a, s, rfl, h⟩
theorem bnx_l {α β : Type} {a : α} {s : St} {f : α → St → Option β} {g : Nat → St → Option β} : bnx (some (.inl a, s)) g f = f a s := rfl
theorem bnx_r {α β : Type} {a : Nat} {s : St} {f : α → St → Option β} {g : Nat → St → Option β} : bnx (some (.inr a, s)) g f = g a s := rfl
/-- an answer, or what is thrown (of the class xc) -/
def oX {α : Type} (f : α → Option TV) (xc : Nat) (r : α ⊕ Nat) : OutX := match r with
  | .inl v => .inl (f v)
  | .inr a => .inr (a, xc)
def lft {α : Type} (x : Option (α × St)) : Option ((α ⊕ Nat) × St) := match x with
  | none => none
  | some p => some (.inl p.1, p.2)
theorem lft_e {α : Type} {x : Option (α × St)} {r : α ⊕ Nat} {s : St} (h : lft x = some (r, s)) : ∃ v, r = .inl v ∧ x = some (v, s) := by
  cases x with
  | none => cases h
  | some p => cases h; exact ⟨p.1, rfl, rfl⟩
def KX (X : CX) (E : EV) (n0 s0 nL : Nat) (Q : State → Prop) (σ1 : St) (pc : Nat) (L : LV) (rest : List TV) : OutX → Prop
  | .inl v => J X E n0 s0 nL Q σ1 (pc + 3) L (v.toList ++ rest)
  | .inr q => (sk σ1 q.1).1 = q.2 → JX X E n0 s0 nL Q σ1 pc L q.1
section ZR
variable {X : CX} {E E' : EV} {cc : ByteArray} {nL : Nat} {ret ret2 : Option FieldType} {own nm : String} {n0 s0 fr lo fr2 lo2 : Nat} {Q : State → Prop} {σ σ0 σ1 σ' : St} {pc : Nat} {L : LV} {rest : List TV} {y : MethodName} {c2 : ByteArray} {nL2 idx : Nat} {As : List TV} {rv : OutX}
/-- a return out of a method that may throw -/
theorem r_ret {v : Option TV} {st : List TV} (k : J X E (sn σ0) (ss σ0) nL (QR X E σ0 v σ') σ pc L st) : J X E (sn σ0) (ss σ0) nL (QZ X E σ0 (.inl v) σ') σ pc L st := by
  intro H locs ls hl hR hS h1 h2 T hT S
  obtain ⟨t, a1, o, b1, b2, b3, b4⟩ := k H locs ls hl hR hS h1 h2 T hT S
  exact ⟨t, a1, o, b1, b2, Or.inl ⟨b3, b4⟩⟩
theorem z_KX (B : FX X E cc nL ret own nm n0 s0 fr lo) {n : Nat} (hC : CTX (xL X) E' y c2 nL2 ret2 fr2 lo2 As σ rv σ1) (hW : CW X fr lo y c2 nL2 ret2 fr2 lo2 n) :
    vx_Back (xL X) (xR X) (xP X) (xE X) (xB X) (xS X) (xA X) y 3 8 (PreO (xR X) ({ frames := fr2, cells := eMx E' - sn σ, slots := eMs E' - ss σ, locals := lo2 } : Room) (va_Pc (As.map (toV (eAd E'))) (fun U => Rel E' σ U.heap ∧ KB E' U))) (PostOf (QX E' σ rv σ1) (sn σ1 - sn σ) (ss σ1 - ss σ) (eA E')) (vz_Post (XX E' σ rv σ1) (sn σ1 - sn σ) (ss σ1 - ss σ) (eA E')) := by
  have hts := B.2.2.2.2.2.2.2.1
  have hR := B.2.2.2.2.2.2.2.2.2.2.1
  obtain ⟨w1, w2, -, w3, w4⟩ := hW
  exact vz_back (bytes := c2) (maxL := nL2) (ret := ret2) hC blind_Pc (by rw [hR]; exact w3) (by rw [hR]; exact w4) (pay_in hts (lw_meth w1)) List.mem_cons_self (fun a' U hW => word_at hW (Or.inl (by first | rfl | simp [Cond.onTables, Cond.keeps, Cond.steady])) (hts _ w2))
/-- what a call of a method that may throw comes to -/
def CallX (X : CX) (E' : EV) (ls : Array Slot) (pc : Nat) (locs : List Loc) (n s : Nat) (As : List TV) (σ : St) (rv : OutX) (σ1 : St) (rest : List Value) (T : State) (g : JFrame) : Prop :=
  (∃ (v : Option Value) (vm₁ : Vm) (Z : Pt), (xS X).WarmedH vm₁ ∧ Stand (xP X) (xL X) (xE X) (xR X) (xS X) (xM X) (xA X) (xB X) (xH X) (xC X) Z.U Z.locs Z.cells Z.slots ∧ PostOf (QX E' σ rv σ1) (sn σ1 - sn σ) (ss σ1 - ss σ) (eA E') ⟨T.setVm vm₁, locs, n, s⟩ (As.map (toV (eAd E'))).toArray v Z ∧
    ∀ target, Steps (xP X).tables (xE X) (xB X) (Z.U.setTop (F0 (xM X) (pc + 3) ls (v.toList ++ rest))) target → Steps (xP X).tables (xE X) (xB X) (T.setTop g) target) ∨
  (∃ (q : Addr) (vm₁ : Vm) (Z : Pt), (xS X).WarmedH vm₁ ∧ Stand (xP X) (xL X) (xE X) (xR X) (xS X) (xM X) (xA X) (xB X) (xH X) (xC X) Z.U Z.locs Z.cells Z.slots ∧ vz_Post (XX E' σ rv σ1) (sn σ1 - sn σ) (ss σ1 - ss σ) (eA E') ⟨T.setVm vm₁, locs, n, s⟩ (As.map (toV (eAd E'))).toArray q Z ∧
    Steps (xP X).tables (xE X) (xB X) (T.setTop g) ((Z.U.setTop (F0 (xM X) pc ls rest)).pushFrame (.throwing q)))
theorem z_S1 {H : Heap} {locs Lc : List Loc} {T t U' : State} {vm₁ : Vm} {A A' : Nat → Prop} (hA : A' = A) (hT : T.heap = H) (hS : va_S A (xS X).heap H locs) (hF : va_F A' (T.setVm vm₁) t) (e1 : U'.heap = t.heap) (hL : ∀ q ∈ Lc, A' q.base) : va_S A (xS X).heap U'.heap (locs ++ Lc) := by
  subst hA
  have z0 : (T.setVm vm₁).heap = H := hT
  have z1 : H.size ≤ t.heap.size := by have := hF.1; rwa [z0] at this
  refine ⟨by rw [e1]; exact Nat.le_trans hS.1 z1, fun q q1 q2 => ?_, fun q hq => ?_⟩
  · rw [e1]
    have := hF.2 q (by rw [z0]; exact Nat.lt_of_lt_of_le q1 hS.1) q2
    rw [this, z0]
    exact hS.2.1 q q1 q2
  · rcases List.mem_append.mp hq with q1 | q1
    · exact hS.2.2 q q1
    · exact hL q q1
theorem z_finX (B : FX X E cc nL ret own nm n0 s0 fr lo) (hX : EX E E' σ σ1) {H : Heap} {locs : List Loc} {ls : Array Slot} {st : List TV} (hl : lv_has ls nL (lmp (eAd E) L)) (hR : Rel E σ H) (hS : va_S (eA E) (xS X).heap H locs) (h1 : n0 ≤ sn σ) (h2 : s0 ≤ ss σ)
    (hcall : ∀ T : State, T.heap = H → Stand (xP X) (xL X) (xE X) (xR X) (xS X) (xM X) (xA X) (xB X) (xH X) (xC X) T locs (sn σ - n0) (ss σ - s0) → (T.heap = H → (sn σ - n0) + (eMx E' - sn σ) ≤ (xR X).cells ∧ (ss σ - s0) + (eMs E' - ss σ) ≤ (xR X).slots ∧ ∀ vm₁, (xS X).WarmedH vm₁ → va_Pc (As.map (toV (eAd E'))) (fun U => Rel E' σ U.heap ∧ KB E' U) (As.map (toV (eAd E'))).toArray (T.setVm vm₁)) →
      CallX X E' ls pc locs (sn σ - n0) (ss σ - s0) As σ rv σ1 (rest.map (toV (eAd E))) T (F0 (xM X) pc ls (st.map (toV (eAd E)))))
    (kk : KX X E n0 s0 nL Q σ1 pc L rest rv) :
    W (xP X) (xL X) (xE X) (xR X) (xS X) (xM X) (xA X) (xB X) (xH X) (xC X) H locs (sn σ - n0) (ss σ - s0) Q (F0 (xM X) pc ls (st.map (toV (eAd E)))) := by
  intro T hT S
  have hKB := B.2.2.2.2.2.2.2.2.1
  have hRm := B.2.2.2.2.2.2.2.2.2.2.1
  have r3 := hR.2.2.1
  obtain ⟨f, hE', -, -⟩ := id hX
  have eM : eMx E' = eMx E ∧ eMs E' = eMs E ∧ eAd E' = eAd E ∧ eA E' = eA E := by rw [hE']; exact ⟨rfl, rfl, rfl, rfl⟩
  have hc := hcall T hT S (fun hT => by
    rw [hRm, eM.1, eM.2.1]
    refine ⟨?_, ?_, fun vm₁ hW => ⟨rfl, ?_, ?_⟩⟩
    · show (sn σ - n0) + (eMx E - sn σ) ≤ eMx E - n0; omega
    · show (ss σ - s0) + (eMs E - ss σ) ≤ eMs E - s0; omega
    · show Rel E' σ T.heap
      rw [hT]
      exact hX.rel hR
    · exact hX.kb (hKB.go (U := T.setVm vm₁) hW hT hS))
  rcases hc with ⟨v, vm₁, ⟨U', l2, c2, s2⟩, hW₁, X', ⟨g', mk, t, Lc, e1, e2, hq, g1, hL, g2, g3⟩, st⟩ | ⟨q, vm₁, ⟨U', l2, c2, s2⟩, hW₁, X', ⟨g', mk, t, Lc, En, ce, e1, e2, hq, hce, hcv, hcl, g1, hL, g2, g3⟩, st⟩
  · cases rv with
    | inr q => exact hq.elim
    | inl rv =>
      obtain ⟨hv, hR1, hn1, hs1, hF⟩ := hq
      dsimp only [Pt.U, Pt.locs, Pt.cells, Pt.slots] at X' e1 e2 g1 g2 g3 st
      subst g1; subst g2; subst g3
      cases hv
      have hRE : Rel E σ1 U'.heap := by rw [e1]; exact hX.back hR.2.2.2.2.2 hR1
      have hS1 := z_S1 (X := X) (vm₁ := vm₁) eM.2.2.2 hT hS hF e1 hL
      have k2 := kk U'.heap (locs ++ Lc) ls hl hRE hS1 (Nat.le_trans h1 hn1) (Nat.le_trans h2 hs1)
      rw [show sn σ1 - n0 = (sn σ - n0) + (sn σ1 - sn σ) by omega, show ss σ1 - s0 = (ss σ - s0) + (ss σ1 - ss σ) by omega] at k2
      obtain ⟨t2, a1, b1⟩ := k2 U' rfl X'
      refine ⟨t2, st t2 ?_, b1⟩
      have hst : (Option.map (toV (eAd E')) rv).toList ++ rest.map (toV (eAd E)) = (rv.toList ++ rest).map (toV (eAd E)) := by
        rw [eM.2.2.1]
        cases rv <;> simp
      rw [hst]
      exact a1
  · cases rv with
    | inl rv => exact hq.elim
    | inr z =>
      obtain ⟨-, -, hqa, hkx, hR1, hn1, hs1, hF⟩ := hq
      dsimp only [Pt.U, Pt.locs, Pt.cells, Pt.slots] at X' e1 e2 g1 g2 g3 st
      subst g1; subst g2; subst g3
      subst hqa
      have hRE : Rel E σ1 U'.heap := by rw [e1]; exact hX.back hR.2.2.2.2.2 hR1
      have hS1 := z_S1 (X := X) (vm₁ := vm₁) eM.2.2.2 hT hS hF e1 hL
      have k2 := kk hkx U'.heap (locs ++ Lc) ls (rest.map (toV (eAd E))) hl hRE hS1 (Nat.le_trans h1 hn1) (Nat.le_trans h2 hs1)
      rw [show sn σ1 - n0 = (sn σ - n0) + (sn σ1 - sn σ) by omega, show ss σ1 - s0 = (ss σ - s0) + (ss σ1 - ss σ) by omega] at k2
      obtain ⟨t2, a1, b1⟩ := k2 U' rfl X'
      rw [eM.2.2.1] at st
      exact ⟨t2, st.trans a1, b1⟩
/-- not caught here -/
theorem r_out (B : FX X E cc nL ret own nm (sn σ0) (ss σ0) fr lo) (ht : ∀ x ∈ (xC X).exceptionTable.toList, False) {a b xc : Nat} {C : String} {T : u_T} {N : Nat} (hk : (sk σ a).1 = xc) (hc : CL[xc]? = some (C, T, N)) (h99 : xc < 99) (h : (a, σ) = (b, σ')) : JX X E (sn σ0) (ss σ0) nL (QZ X E σ0 (.inr (b, xc)) σ') σ pc L a := by
  cases h
  intro H locs ls rest hl hR hS h1 h2
  obtain ⟨ce, f1, f2, f3⟩ := z_recv B hR hk h99 hc
  have hwa := (wof_at (E := E) (hR.lt (a := a) (by rw [hk]; omega))).trans (by rw [cof_o hk (by omega)])
  obtain ⟨r, g1, cell, q1, q2, q3, q4⟩ := hR.1 a _ hwa
  cases f1.symm.trans q1
  intro Ts hT S
  obtain ⟨st1, hrun, hend, hW, hsm⟩ := S.leaveThrown (eAd E a) (g := F0 (xM X) pc ls rest) rfl rfl rfl (fun x hx => (ht x hx).elim) B.2.2.2.2.2.1
  have hcell9 : (Ts.setFrames (.throwing (eAd E a) :: xB X)).heap[eAd E a]? = some ce := by
    show Ts.heap[eAd E a]? = some ce
    rw [hT]; exact f1
  refine ⟨_, st1, .threw (eAd E a), hrun, hend, Or.inr ⟨eAd E a, rfl, C, ce, locs, ⟨⟨T, N, hc⟩, h99, rfl, hk, ?_, h1, h2, hS.F hT⟩, hcell9, q3, f3, hW, hsm, hS.2.2⟩⟩
  show Rel E σ Ts.heap
  rw [hT]
  exact hR
/-- athrow -/
theorem r_athrow (B : FX X E cc nL ret own nm n0 s0 fr lo) {a : Nat} {o : Option Nat} (ho : o = some a) (d : decode cc pc = .ok (.athrow, 1)) (k : JX X E n0 s0 nL Q σ pc L a) : J X E n0 s0 nL Q σ pc L (vr o :: rest) := by
  subst ho
  exact fun H locs ls hl hR hS h1 h2 => vx_athrow B.1 B.2.1 d (k H locs ls (rest.map (toV (eAd E))) hl hR hS h1 h2)
/-- caught here -/
theorem r_catch (B : FX X E cc nL ret own nm n0 s0 fr lo) {hh : List (Nat × Nat × Nat × Nat)} (ht : (xC X).exceptionTable.toList = tableOf hh) (pre : List ExceptionTableEntry) (x : ExceptionTableEntry) (suf : List ExceptionTableEntry) (hsplit : tableOf hh = pre ++ x :: suf) (hpass : ∀ z ∈ pre, covers z pc = false) (hx : covers x pc = true) (h0 : x.catchType ≠ 0) {a xc : Nat} {C : String} {T : u_T} {N : Nat} (hk : (sk σ a).1 = xc) (hc : CL[xc]? = some (C, T, N)) (h99 : xc < 99) (w1 : Cond.classLink own x.catchType C ∈ lw_all) (w2 : Cond.castable C C ∈ lw_nest)
    (k : J X E n0 s0 nL Q σ x.handlerPc L [vr (some a)]) : JX X E n0 s0 nL Q σ pc L a := by
  intro H locs ls rest hl hR hS h1 h2
  obtain ⟨ce, f1, f2, f3⟩ := z_recv B hR hk h99 hc
  have hwa := (wof_at (E := E) (hR.lt (a := a) (by rw [hk]; omega))).trans (by rw [cof_o hk (by omega)])
  obtain ⟨r, g1, cell, q1, q2, q3, q4⟩ := hR.1 a _ hwa
  cases f1.symm.trans q1
  exact vx_catch B.2.2.2.2.1 pre x suf (ht.trans hsplit) (fun z hz => Or.inl (hpass z hz)) hx h0 (B.2.2.2.2.2.2.2.1 _ w1) (va_Nw.use rfl (B.2.2.2.2.2.2.2.2.1.1.2.1 _ w2)) f1 q3 f3 (k H locs ls hl hR hS h1 h2)

theorem r_xV (B : FX X E cc nL ret own nm n0 s0 fr lo) {a : Nat} {o : Option Nat} {st : List TV} (hst : st = As.reverse ++ vr o :: rest) (ho : o = some a) (hX : EX E E' σ σ1) (hC : CTX (xL X) E' y c2 nL2 ret2 fr2 lo2 (vr (some a) :: As) σ rv σ1) (hW : CW X fr lo y c2 nL2 ret2 fr2 lo2 As.length) (hv : eSk E σ → RV σ a y y) (w1 : Cond.methodLink own idx y ∈ lw_all) (w2 : Cond.instanceMethod y ∈ lw_all)
    (hr : Nat.ble ((rest.map tcat).sum) 8 = true) (d : decode cc pc = .ok (.invokevirtual idx, 3)) (kk : KX X E n0 s0 nL Q σ1 pc L rest rv) : J X E n0 s0 nL Q σ pc L st := by
  subst hst
  subst ho
  intro H locs ls hl hR hS h1 h2
  have hts := B.2.2.2.2.2.2.2.1
  have hK := z_KX B hC hW
  obtain ⟨c, C, T, N, hk, h99, hc, w3⟩ := hv hR.2.2.2.2.2
  obtain ⟨cellB, hcB, hoB, hclB⟩ := z_recv B hR hk h99 hc
  obtain ⟨f, rfl, hf1, hf2⟩ := id hX
  obtain ⟨v1, v2, v3, -, -⟩ := hW
  refine z_finX (As := vr (some a) :: As) (rv := rv) (rest := rest) B hX hl hR hS h1 h2 (fun T hT S hp => ?_) kk
  obtain ⟨p1, p2, p3⟩ := hp hT
  refine vx_callV S B.1 (C := C) (bytes := c2) (maxL := nL2) (ret := ret2) B.2.2.2.2.1 (hts _ w1) (hts _ w2) (hts _ w3) (hts _ v1) ⟨v3.1, v3.2.1⟩ hK (b := eAd E a) (by rw [hT]; exact hcB) hoB hclB (g := F0 (xM X) pc ls _) rfl (hl.1.trans B.2.2.2.1.symm) (argsL := As.map (toV (eAd E))) (rest := rest.map (toV (eAd E))) (fun sig h => by have h5 := v3.2.2; rw [h] at h5; rw [List.length_map]; exact (Option.some.inj h5).symm) ?_ (rest_le hr) (by rw [B.2.1]; exact d) ?_
  · simp [toV, va_rf]
  · intro vm₁ hw
    exact ⟨p1, p2, p3 vm₁ hw⟩
theorem r_xU (B : FX X E cc nL ret own nm n0 s0 fr lo) {a : Nat} {o : Option Nat} {owner : String} {x : MethodName} {st : List TV} (hst : st = As.reverse ++ vr o :: rest) (ho : o = some a) (hX : EX E E' σ σ1) (hC : CTX (xL X) E' y c2 nL2 ret2 fr2 lo2 (vr (some a) :: As) σ rv σ1) (hW : CW X fr lo y c2 nL2 ret2 fr2 lo2 As.length) (hv : eSk E σ → RV σ a x y) (w1 : Cond.methodLink own idx x ∈ lw_all) (w2 : Cond.instanceMethod y ∈ lw_all) (w4 : Cond.sameMethod x.cls owner x.name x.desc ∈ lw_all) (w5 : Cond.declares ⟨owner, x.name, x.desc⟩ ∈ lw_nest) (w6 : owner ≠ "java/lang/invoke/MethodHandle" ∧ owner ≠ "java/lang/invoke/VarHandle") (hxy : x.desc = y.desc)
    (hr : Nat.ble ((rest.map tcat).sum) 8 = true) (d : decode cc pc = .ok (.invokevirtual idx, 3)) (kk : KX X E n0 s0 nL Q σ1 pc L rest rv) : J X E n0 s0 nL Q σ pc L st := by
  subst hst
  subst ho
  intro H locs ls hl hR hS h1 h2
  have hts := B.2.2.2.2.2.2.2.1
  have hK := z_KX B hC hW
  obtain ⟨c, C, T, N, hk, h99, hc, w3⟩ := hv hR.2.2.2.2.2
  obtain ⟨cellB, hcB, hoB, hclB⟩ := z_recv B hR hk h99 hc
  obtain ⟨f, rfl, hf1, hf2⟩ := id hX
  obtain ⟨v1, v2, v3, -, -⟩ := hW
  refine z_finX (As := vr (some a) :: As) (rv := rv) (rest := rest) B hX hl hR hS h1 h2 (fun T hT S hp => ?_) kk
  obtain ⟨p1, p2, p3⟩ := hp hT
  refine vx_callVU S B.1 (C := C) (owner := owner) (x := x) (bytes := c2) (maxL := nL2) (ret := ret2) B.2.2.2.2.1 (hts _ w1) (hts _ w4) (va_Decl.abs (B.2.2.2.2.2.2.2.2.1.1.2.1 _ w5)) w6 (hts _ w3) (hts _ w2) (hts _ v1) hK (b := eAd E a) (by rw [hT]; exact hcB) hoB hclB (g := F0 (xM X) pc ls _) rfl (hl.1.trans B.2.2.2.1.symm) (argsL := As.map (toV (eAd E))) (rest := rest.map (toV (eAd E))) (fun sig h => by have h5 := v3.2.2; rw [← hxy, h] at h5; rw [List.length_map]; exact (Option.some.inj h5).symm) ?_ (rest_le hr) (by rw [B.2.1]; exact d) ?_
  · simp [toV, va_rf]
  · intro vm₁ hw
    exact ⟨p1, p2, p3 vm₁ hw⟩
theorem r_xVn (B : FX X E cc nL ret own nm n0 s0 fr lo) {a : Nat} {o : Option Nat} {st : List TV} (hst : st = As.reverse ++ vr o :: rest) (ho : o = some a) (hX : EX E E' σ σ1) {v : TV} (hC : CTX (xL X) E' y c2 nL2 ret2 fr2 lo2 (vr (some a) :: As) σ (.inl (some v)) σ1) (hW : CW X fr lo y c2 nL2 ret2 fr2 lo2 As.length) (hv : eSk E σ → RV σ a y y) (w1 : Cond.methodLink own idx y ∈ lw_all) (w2 : Cond.instanceMethod y ∈ lw_all) (hr : Nat.ble ((rest.map tcat).sum) 8 = true) (d : decode cc pc = .ok (.invokevirtual idx, 3)) (kk : J X E n0 s0 nL Q σ1 (pc + 3) L (v :: rest)) : J X E n0 s0 nL Q σ pc L st := r_xV (rv := .inl (some v)) B hst ho hX hC hW hv w1 w2 hr d kk
theorem r_xV0 (B : FX X E cc nL ret own nm n0 s0 fr lo) {a : Nat} {o : Option Nat} {st : List TV} (hst : st = As.reverse ++ vr o :: rest) (ho : o = some a) (hX : EX E E' σ σ1) (hC : CTX (xL X) E' y c2 nL2 ret2 fr2 lo2 (vr (some a) :: As) σ (.inl none) σ1) (hW : CW X fr lo y c2 nL2 ret2 fr2 lo2 As.length) (hv : eSk E σ → RV σ a y y) (w1 : Cond.methodLink own idx y ∈ lw_all) (w2 : Cond.instanceMethod y ∈ lw_all) (hr : Nat.ble ((rest.map tcat).sum) 8 = true) (d : decode cc pc = .ok (.invokevirtual idx, 3)) (kk : J X E n0 s0 nL Q σ1 (pc + 3) L rest) : J X E n0 s0 nL Q σ pc L st := r_xV (rv := .inl none) B hst ho hX hC hW hv w1 w2 hr d kk
theorem r_xVx (B : FX X E cc nL ret own nm n0 s0 fr lo) {a : Nat} {o : Option Nat} {st : List TV} (hst : st = As.reverse ++ vr o :: rest) (ho : o = some a) (hX : EX E E' σ σ1) {b xc : Nat} (hC : CTX (xL X) E' y c2 nL2 ret2 fr2 lo2 (vr (some a) :: As) σ (.inr (b, xc)) σ1) (hW : CW X fr lo y c2 nL2 ret2 fr2 lo2 As.length) (hv : eSk E σ → RV σ a y y) (w1 : Cond.methodLink own idx y ∈ lw_all) (w2 : Cond.instanceMethod y ∈ lw_all) (hr : Nat.ble ((rest.map tcat).sum) 8 = true) (d : decode cc pc = .ok (.invokevirtual idx, 3)) (kk : (sk σ1 b).1 = xc → JX X E n0 s0 nL Q σ1 pc L b) : J X E n0 s0 nL Q σ pc L st := r_xV (rv := .inr (b, xc)) B hst ho hX hC hW hv w1 w2 hr d kk
/-- a call by a name that several classes' methods answer to -/
def DSP (l : Launch) (E : EV) (x : MethodName) (FR LO : Nat) (As : List TV) (a : Nat) (σ : St) (rv : OutX) (σ1 : St) : Prop := ∃ (y : MethodName) (c2 : ByteArray) (nL2 : Nat) (ret2 : Option FieldType) (fr2 lo2 : Nat), RV σ a x y ∧ Cond.instanceMethod y ∈ lw_all ∧ CTX l E y c2 nL2 ret2 fr2 lo2 (vr (some a) :: As) σ rv σ1 ∧ (Cond.code y c2 nL2 ret2 ∈ lw_all ∧ Cond.initialized y.cls ∈ lw_all ∧ (y.cls ≠ "java/lang/invoke/MethodHandle" ∧ y.cls ≠ "java/lang/invoke/VarHandle" ∧ (parseMethodDescriptor y.desc).map (fun d => d.parameters.length) = some As.length)) ∧ fr2 + 1 ≤ FR ∧ 8 + (nL2 + 11) + lo2 ≤ LO ∧ x.desc = y.desc
theorem r_xD {x : MethodName} {owner : String} (B : FX X E cc nL ret own nm n0 s0 fr lo) {a : Nat} {o : Option Nat} {st : List TV} (hst : st = As.reverse ++ vr o :: rest) (ho : o = some a) (hX : EX E E' σ σ1) {FR LO : Nat} (hC : DSP (xL X) E' x FR LO As a σ rv σ1) (hF : FR ≤ fr) (hL : LO ≤ lo) (w1 : Cond.methodLink own idx x ∈ lw_all) (w4 : Cond.sameMethod x.cls owner x.name x.desc ∈ lw_all) (w5 : Cond.declares ⟨owner, x.name, x.desc⟩ ∈ lw_nest) (w6 : owner ≠ "java/lang/invoke/MethodHandle" ∧ owner ≠ "java/lang/invoke/VarHandle") (hr : Nat.ble ((rest.map tcat).sum) 8 = true) (d : decode cc pc = .ok (.invokevirtual idx, 3)) (kk : KX X E n0 s0 nL Q σ1 pc L rest rv) : J X E n0 s0 nL Q σ pc L st := by
  obtain ⟨y, c2, nL2, ret2, fr2, lo2, g1, g2, g3, ⟨g4, g5, g6⟩, g7, g8, g9⟩ := hC
  exact r_xU B hst ho hX g3 ⟨g4, g5, g6, Nat.le_trans g7 hF, Nat.le_trans g8 hL⟩ (fun _ => g1) w1 g2 w4 w5 w6 g9 hr d kk
theorem r_xDn {x : MethodName} {owner : String} {v : TV} (B : FX X E cc nL ret own nm n0 s0 fr lo) {a : Nat} {o : Option Nat} {st : List TV} (hst : st = As.reverse ++ vr o :: rest) (ho : o = some a) (hX : EX E E' σ σ1) {FR LO : Nat} (hC : DSP (xL X) E' x FR LO As a σ (.inl (some v)) σ1) (hF : FR ≤ fr) (hL : LO ≤ lo) (w1 : Cond.methodLink own idx x ∈ lw_all) (w4 : Cond.sameMethod x.cls owner x.name x.desc ∈ lw_all) (w5 : Cond.declares ⟨owner, x.name, x.desc⟩ ∈ lw_nest) (w6 : owner ≠ "java/lang/invoke/MethodHandle" ∧ owner ≠ "java/lang/invoke/VarHandle") (hr : Nat.ble ((rest.map tcat).sum) 8 = true) (d : decode cc pc = .ok (.invokevirtual idx, 3)) (kk : J X E n0 s0 nL Q σ1 (pc + 3) L (v :: rest)) : J X E n0 s0 nL Q σ pc L st := r_xD (rv := (.inl (some v))) B hst ho hX hC hF hL w1 w4 w5 w6 hr d kk
theorem r_xD0 {x : MethodName} {owner : String}  (B : FX X E cc nL ret own nm n0 s0 fr lo) {a : Nat} {o : Option Nat} {st : List TV} (hst : st = As.reverse ++ vr o :: rest) (ho : o = some a) (hX : EX E E' σ σ1) {FR LO : Nat} (hC : DSP (xL X) E' x FR LO As a σ (.inl none) σ1) (hF : FR ≤ fr) (hL : LO ≤ lo) (w1 : Cond.methodLink own idx x ∈ lw_all) (w4 : Cond.sameMethod x.cls owner x.name x.desc ∈ lw_all) (w5 : Cond.declares ⟨owner, x.name, x.desc⟩ ∈ lw_nest) (w6 : owner ≠ "java/lang/invoke/MethodHandle" ∧ owner ≠ "java/lang/invoke/VarHandle") (hr : Nat.ble ((rest.map tcat).sum) 8 = true) (d : decode cc pc = .ok (.invokevirtual idx, 3)) (kk : J X E n0 s0 nL Q σ1 (pc + 3) L rest) : J X E n0 s0 nL Q σ pc L st := r_xD (rv := (.inl none)) B hst ho hX hC hF hL w1 w4 w5 w6 hr d kk
theorem r_xDx {x : MethodName} {owner : String} {b xc : Nat} (B : FX X E cc nL ret own nm n0 s0 fr lo) {a : Nat} {o : Option Nat} {st : List TV} (hst : st = As.reverse ++ vr o :: rest) (ho : o = some a) (hX : EX E E' σ σ1) {FR LO : Nat} (hC : DSP (xL X) E' x FR LO As a σ (.inr (b, xc)) σ1) (hF : FR ≤ fr) (hL : LO ≤ lo) (w1 : Cond.methodLink own idx x ∈ lw_all) (w4 : Cond.sameMethod x.cls owner x.name x.desc ∈ lw_all) (w5 : Cond.declares ⟨owner, x.name, x.desc⟩ ∈ lw_nest) (w6 : owner ≠ "java/lang/invoke/MethodHandle" ∧ owner ≠ "java/lang/invoke/VarHandle") (hr : Nat.ble ((rest.map tcat).sum) 8 = true) (d : decode cc pc = .ok (.invokevirtual idx, 3)) (kk : (sk σ1 b).1 = xc → JX X E n0 s0 nL Q σ1 pc L b) : J X E n0 s0 nL Q σ pc L st := r_xD (rv := (.inr (b, xc))) B hst ho hX hC hF hL w1 w4 w5 w6 hr d kk
end ZR
section CP
variable {X : CX} {E : EV} {cc : ByteArray} {nL : Nat} {ret : Option FieldType} {own nm : String} {n0 s0 fr lo : Nat} {Q : State → Prop} {σ σ1 : St} {pc : Nat} {L : LV} {rest : List TV}
def okC (sp dp n : Int32) (n0 n1 : Nat) : Bool := !(decide (sp < 0)) && !(decide (dp < 0)) && !(decide (n < 0)) && Nat.ble (sp.toNatClampNeg + n.toNatClampNeg) n0 && Nat.ble (dp.toNatClampNeg + n.toNatClampNeg) n1
theorem okC_e {sp dp n : Int32} {n0 n1 : Nat} (h : okC sp dp n n0 n1 = true) : ¬ sp < 0 ∧ ¬ dp < 0 ∧ ¬ n < 0 ∧ sp.toNatClampNeg + n.toNatClampNeg ≤ n0 ∧ dp.toNatClampNeg + n.toNatClampNeg ≤ n1 := by
  unfold okC at h
  simp only [Bool.and_eq_true, Bool.not_eq_true', decide_eq_false_iff_not, Nat.ble_eq] at h
  exact ⟨h.1.1.1.1, h.1.1.1.2, h.1.1.2, h.1.2, h.2⟩
theorem r_copyI (B : FX X E cc nL ret own nm n0 s0 fr lo) {a b na nb idx : Nat} {o1 o2 : Option Nat} {sp dp n : Int32} (e1 : σ1 = cpyI σ a sp.toNatClampNeg b dp.toNatClampNeg n.toNatClampNeg) (h1 : o1 = some a) (h2 : o2 = some b) (hk1 : eSk E σ → sk σ a = (100 + 0, na)) (hk2 : eSk E σ → sk σ b = (100 + 0, nb)) (hg : okC sp dp n na nb = true)
    (w1 : Cond.methodLink own idx arraycopyName ∈ lw_all) (w2 : Cond.native arraycopyName ∈ lw_all) (w3 : Cond.static arraycopyName ∈ lw_all) (w4 : Cond.initialized "java/lang/System" ∈ lw_all) (hf : 1 ≤ fr) (hlo : 60 ≤ lo) (hr : Nat.ble ((rest.map tcat).sum) 8 = true) (d : decode cc pc = .ok (.invokestatic idx, 3)) (kk : J X E n0 s0 nL Q σ1 (pc + 3) L rest) : J X E n0 s0 nL Q σ pc L (vi n :: vi dp :: vr o2 :: vi sp :: vr o1 :: rest) := by
  subst h1
  subst h2
  subst e1
  intro H locs ls hl hR hS g1 g2
  have hts := B.2.2.2.2.2.2.2.1
  have hRm := B.2.2.2.2.2.2.2.2.2.2.1
  have hKF := B.2.2.2.2.2.2.2.2.1.1.1
  have k1 := hk1 hR.2.2.2.2.2
  have k2 := hk2 hR.2.2.2.2.2
  have l1 := hR.lt (a := a) (by rw [k1]; show 100 + _ ≠ 99; omega)
  have l2 := hR.lt (a := b) (by rw [k2]; show 100 + _ ≠ 99; omega)
  obtain ⟨q1, q2, q3, q4, q5⟩ := okC_e hg
  refine va_copyi B.1 B.2.1 (B.2.2.2.1.trans hl.1.symm) B.2.2.2.2.1 (hts _ w1) (hts _ w2) (hts _ w3) (hts _ w4) hKF hR.1 (wof_D B.ge hR.2.2.1.2.1) hS a b 0 0 ((wof_at l1).trans (by rw [cof_a k1]; rfl)) ((wof_at l2).trans (by rw [cof_a k2]; rfl)) (tysE_at E (t := 0) (by decide)) (tysE_at E (t := 0) (by decide)) rfl q1 q2 q3 q4 q5 (fun i _ => rfl) (by rw [hRm]; exact hf) (by
    rw [hRm, toV_sum]
    have := Nat.le_of_ble_eq_true hr
    exact Nat.le_trans (Nat.add_le_add_right this _) (Nat.le_trans (by decide) hlo)) d (fun H1 locs1 hP1 hD1 hS1 => ?_)
  have hP2 := hR.arr (σ' := cpyI σ a sp.toNatClampNeg b dp.toNatClampNeg n.toNatClampNeg) k2 (p := (nb, .inl (va_cpy (si σ a) (si σ b) sp.toNatClampNeg dp.toNatClampNeg n.toNatClampNeg))) (by show apay E 0 (if b = b then _ else _) _ _ nb = _; rw [if_pos rfl]; rfl) (fun x e => cof_same rfl (by show (if x = b then _ else si σ x) = _; rw [if_neg e]) rfl rfl) rfl rfl hP1
  refine W_sz (σ1 := cpyI σ a sp.toNatClampNeg b dp.toNatClampNeg n.toNatClampNeg) B g1 ⟨hR.2.2.1.1, hR.2.2.1.2.1⟩ hP2 hS1 (fun hz => ?_)
  exact kk H1 locs1 ls hl ⟨hP2, hz, hR.2.2.1, hR.2.2.2.1, hR.2.2.2.2.1, B.ge.2.2.1 σ _ rfl rfl hR.2.2.2.2.2⟩ hS1 g1 g2
end CP
