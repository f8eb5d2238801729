set_option maxRecDepth 100000
/-! ===== the law's frame: calls out of it, with counts of its own ===== -/
/-- what is fixed through the law's walk -/
def LX (p : Program) (s : State) (m : MethodId) (b N : Nat) (xs : Nat → Int32) (meth : Method) (c : Code) : Prop :=
  p.tables.exec = Jvm.exec ∧ c.code = cL_law ∧ meth.sig.returnType = ret ∧ c.maxLocals = 4 ∧ s.vm.findClass "RoseThrowLaw" = some m.cls ∧ (∀ w ∈ lw_all, w.before #[Value.ref b] s = true) ∧ va_X b N xs s s.heap ∧ b < s.heap.size ∧ meth.locks = false
/-- nothing old is written -/
def LWS (s : State) (H : Heap) (locs : List Loc) : Prop := va_S (fun q => s.heap.size ≤ q) s.heap H locs
theorem KB.law {E : EV} {s U : State} {H : Heap} {locs : List Loc} (hW : s.WarmedH U.vm) (hU : U.heap = H) (hS : LWS s H locs) (h : KB E s) : KB E U :=
  h.go (H := H) (locs := []) hW hU ⟨hS.1, fun q h1 _ => hS.2.1 q h1 (Nat.not_le.mpr h1), fun _ h => absurd h List.not_mem_nil⟩
section LC
variable {p : Program} {l : Launch} {e : Env} {s : State} {m : MethodId} {b N : Nat} {xs : Nat → Int32} {below : List Frame} {meth : Method} {c : Code} {H : Heap} {locs : List Loc} {cells slots : Nat} {Q : State → Prop}
variable {E : EV} {X : CX} {y : MethodName} {c2 : ByteArray} {nL2 n fr2 lo2 idx : Nat} {ret2 : Option FieldType} {As : List TV} {rv : Option TV} {σ σ1 : St} {pc : Nat} {ls : Array Slot} {rest : List Value}
theorem lz_K {len : Nat} (hts : ∀ w ∈ lw_all, w.before #[Value.ref b] s = true) (hC : CT l E y c2 nL2 ret2 fr2 lo2 As σ rv σ1) (hW : CW X 8192 100000 y c2 nL2 ret2 fr2 lo2 n) :
    Back l room_1 p e below s #[Value.ref b] y len 8 (PreO room_1 ({ frames := fr2, cells := eMx E - sn σ, slots := eMs E - ss σ, locals := lo2 } : Jvm.Room) (va_Pc (As.map (toV (eAd E))) (fun U => Rel E σ U.heap ∧ KB E U))) (PostOf (QC E σ rv σ1) (sn σ1 - sn σ) (ss σ1 - ss σ) (eA E)) := by
  obtain ⟨w1, w2, -, w3, w4⟩ := hW
  exact z_back (bytes := c2) (maxL := nL2) (ret := ret2) hC blind_Pc w3 w4 (pay_in hts (lw_meth w1)) List.mem_cons_self (fun a' U hW => word_at hW (Or.inl (by first | rfl | simp [Cond.onTables, Cond.keeps, Cond.steady])) (hts _ w2))
theorem lz_fin {len : Nat} (hKB : KB E s) (hA : ∀ q, eA E q → s.heap.size ≤ q) (hR : Rel E σ H) (hS : LWS s H locs) (hrm : cells + (eMx E - sn σ) ≤ 1200048 ∧ slots + (eMs E - ss σ) ≤ 5501818) {st : List Value}
    (hcall : ∀ T : State, T.heap = H → Stand p l e room_1 s m #[Value.ref b] below meth c T locs cells slots → (T.heap = H → cells + (eMx E - sn σ) ≤ room_1.cells ∧ slots + (eMs E - ss σ) ≤ room_1.slots ∧ ∀ vm₁, s.WarmedH vm₁ → va_Pc (As.map (toV (eAd E))) (fun U => Rel E σ U.heap ∧ KB E U) (As.map (toV (eAd E))).toArray (T.setVm vm₁)) →
      ∃ (v : Option Value) (vm₁ : Vm) (Z : Pt), s.WarmedH vm₁ ∧ Stand p l e room_1 s m #[Value.ref b] below meth c Z.U Z.locs Z.cells Z.slots ∧ PostOf (QC E σ rv σ1) (sn σ1 - sn σ) (ss σ1 - ss σ) (eA E) ⟨T.setVm vm₁, locs, cells, slots⟩ (As.map (toV (eAd E))).toArray v Z ∧
        ∀ target, Steps p.tables e below (Z.U.setTop (F0 m (pc + len) ls (v.toList ++ rest))) target → Steps p.tables e below (T.setTop (F0 m pc ls st)) target)
    (kk : ∀ (H1 : Heap) (locs1 : List Loc), Rel E σ1 H1 → H.size ≤ H1.size → (∀ q : Nat, q < H.size → ¬ eA E q → H1[q]? = H[q]?) → LWS s H1 locs1 → sn σ ≤ sn σ1 → ss σ ≤ ss σ1 →
      W p l e room_1 s m #[Value.ref b] below meth c H1 locs1 (cells + (sn σ1 - sn σ)) (slots + (ss σ1 - ss σ)) Q (F0 m (pc + len) ls ((rv.map (toV (eAd E))).toList ++ rest))) :
    W p l e room_1 s m #[Value.ref b] below meth c H locs cells slots Q (F0 m pc ls st) := by
  intro T hT S
  obtain ⟨v, vm₁, ⟨U', l2, c2, s2⟩, hW₁, X', ⟨g', mk, t, Lc, e1, e2, ⟨hv, hR1, hn1, hs1, hF⟩, g1, hL, g2, g3⟩, st⟩ := hcall T hT S (fun hT => by
    refine ⟨hrm.1, hrm.2, fun vm₁ hW => ⟨rfl, ?_, ?_⟩⟩
    · show Rel E σ T.heap
      rw [hT]
      exact hR
    · exact KB.law (U := T.setVm vm₁) hW hT hS hKB)
  dsimp only [Pt.U, Pt.locs, Pt.cells, Pt.slots] at X' e1 e2 g1 g2 g3 st
  subst g1; subst g2; subst g3
  cases hv
  have hTH : (T.setVm vm₁).heap = H := hT
  have hF : va_F (eA E) (T.setVm vm₁) t := hF
  have z1 : H.size ≤ t.heap.size := by have := hF.1; rwa [hTH] at this
  have z2 : ∀ q : Nat, q < H.size → ¬ eA E q → t.heap[q]? = H[q]? := fun q q1 q2 => by
    have := hF.2 q (by rw [hTH]; exact q1) q2
    rwa [hTH] at this
  have hS1 : LWS s U'.heap (locs ++ Lc) := by
    refine ⟨by rw [e1]; exact Nat.le_trans hS.1 z1, fun q q1 q2 => ?_, fun q hq => ?_⟩
    · rw [e1]
      exact (z2 q (Nat.lt_of_lt_of_le q1 hS.1) (fun z => q2 (hA q z))).trans (hS.2.1 q q1 q2)
    · rcases List.mem_append.mp hq with q1 | q1
      · exact hS.2.2 q q1
      · exact hA _ (hL q q1)
  obtain ⟨t2, a1, b1⟩ := kk U'.heap (locs ++ Lc) (by rw [e1]; exact hR1) (by rw [e1]; exact z1) (by rw [e1]; exact z2) hS1 hn1 hs1 U' rfl X'
  exact ⟨t2, st t2 a1, b1⟩
theorem rest_le0 {pc : Nat} {ls : Array Slot} {st : List Value} (h : (rest.map fun v => v.category).sum ≤ 8) : 2 * (F0 m pc ls st).monitorRoom + (rest.map fun v => v.category).sum ≤ 8 := by
  show 2 * 0 + _ ≤ 8
  omega
theorem l_callV (L0 : LX p s m b N xs meth c) (hKB : KB E s) (hA : ∀ q, eA E q → s.heap.size ≤ q) (hR : Rel E σ H) (hS : LWS s H locs) (hrm : cells + (eMx E - sn σ) ≤ 1200048 ∧ slots + (eMs E - ss σ) ≤ 5501818) {a cn Nf : Nat} {C : String} {T : u_T} (hk : (sk σ a).1 = cn) (h99 : cn < 99) (hc : CL[cn]? = some (C, T, Nf)) {st : List Value} (hst : st = (As.map (toV (eAd E))).reverse ++ Value.ref (eAd E a) :: rest)
    (hC : CT l E y c2 nL2 ret2 fr2 lo2 (vr (some a) :: As) σ rv σ1) (hW : CW X 8192 100000 y c2 nL2 ret2 fr2 lo2 As.length) (w1 : Cond.methodLink "RoseThrowLaw" idx y ∈ lw_all) (w2 : Cond.instanceMethod y ∈ lw_all) (w3 : Cond.selects C y y ∈ lw_all) (hr : (rest.map fun v => v.category).sum ≤ 8) (hl : ls.size = 4) (d : decode cL_law pc = .ok (.invokevirtual idx, 3))
    (kk : ∀ (H1 : Heap) (locs1 : List Loc), Rel E σ1 H1 → H.size ≤ H1.size → (∀ q : Nat, q < H.size → ¬ eA E q → H1[q]? = H[q]?) → LWS s H1 locs1 → sn σ ≤ sn σ1 → ss σ ≤ ss σ1 →
      W p l e room_1 s m #[Value.ref b] below meth c H1 locs1 (cells + (sn σ1 - sn σ)) (slots + (ss σ1 - ss σ)) Q (F0 m (pc + 3) ls ((rv.map (toV (eAd E))).toList ++ rest))) :
    W p l e room_1 s m #[Value.ref b] below meth c H locs cells slots Q (F0 m pc ls st) := by
  obtain ⟨hx, hb, -, hml, hown, hts, -, -, -⟩ := L0
  have hK := lz_K (p := p) (e := e) (below := below) (len := 3) hts hC hW
  have hlt : a < sn σ := hR.lt (a := a) (by rw [hk]; omega)
  obtain ⟨cellB, hcB, hoB, hclB⟩ : ∃ cell : Cell, H[eAd E a]? = some cell ∧ cell.vm.isStatics = false ∧ s.vm.findClass C = some cell.cls :=
    va_recv (q := (C, T, Nf)) hKB.1.1 hR.1 hc ((wof_at hlt).trans (by rw [cof_o hk (by omega)]))
  obtain ⟨v1, v2, v3, -, -⟩ := hW
  refine lz_fin (len := 3) (As := vr (some a) :: As) (rv := rv) hKB hA hR hS hrm (fun T hT S hp => ?_) kk
  obtain ⟨p1, p2, p3⟩ := hp hT
  refine callV S hx (C := C) (bytes := c2) (maxL := nL2) (ret := ret2) hown (hts _ w1) (hts _ w2) (hts _ w3) (hts _ v1) ⟨v3.1, v3.2.1⟩ hK (b := eAd E a) (by rw [hT]; exact hcB) hoB hclB (g := F0 m pc ls _) rfl (hl.trans hml.symm) (argsL := As.map (toV (eAd E))) (rest := rest) (fun sig h => by have h5 := v3.2.2; rw [h] at h5; rw [List.length_map]; exact (Option.some.inj h5).symm) hst (rest_le0 hr) (by rw [hb]; exact d) ?_
  intro vm₁ hw
  exact ⟨p1, p2, p3 vm₁ hw⟩
theorem l_callI (L0 : LX p s m b N xs meth c) (hKB : KB E s) (hA : ∀ q, eA E q → s.heap.size ≤ q) (hR : Rel E σ H) (hS : LWS s H locs) (hrm : cells + (eMx E - sn σ) ≤ 1200048 ∧ slots + (eMs E - ss σ) ≤ 5501818) {a : Nat} {st : List Value} (hst : st = Value.ref (eAd E a) :: rest)
    (hC : CT l E y c2 nL2 none fr2 lo2 [vr (some a)] σ none σ1) (hW : CW X 8192 100000 y c2 nL2 none fr2 lo2 0) (hy : y.name = "<init>") (w1 : Cond.methodLink "RoseThrowLaw" idx y ∈ lw_all) (w2 : Cond.instanceMethod y ∈ lw_all) (hr : (rest.map fun v => v.category).sum ≤ 8) (hl : ls.size = 4) (d : decode cL_law pc = .ok (.invokespecial idx, 3))
    (kk : ∀ (H1 : Heap) (locs1 : List Loc), Rel E σ1 H1 → H.size ≤ H1.size → (∀ q : Nat, q < H.size → ¬ eA E q → H1[q]? = H[q]?) → LWS s H1 locs1 → sn σ ≤ sn σ1 → ss σ ≤ ss σ1 →
      W p l e room_1 s m #[Value.ref b] below meth c H1 locs1 (cells + (sn σ1 - sn σ)) (slots + (ss σ1 - ss σ)) Q (F0 m (pc + 3) ls rest)) :
    W p l e room_1 s m #[Value.ref b] below meth c H locs cells slots Q (F0 m pc ls st) := by
  obtain ⟨hx, hb, -, hml, hown, hts, -, -, -⟩ := L0
  have hK := lz_K (p := p) (e := e) (below := below) (len := 3) hts hC hW
  obtain ⟨v1, v2, v3, -, -⟩ := hW
  refine lz_fin (len := 3) (As := [vr (some a)]) (rv := none) hKB hA hR hS hrm (fun T hT S hp => ?_) kk
  obtain ⟨p1, p2, p3⟩ := hp hT
  refine callI S hx (bytes := c2) (maxL := nL2) hown hy (hts _ w1) (hts _ w2) (hts _ v1) ⟨v3.1, v3.2.1⟩ hK (g := F0 m pc ls _) rfl (hl.trans hml.symm) (a := eAd E a) (argsL := []) (rest := rest) (fun sig h => by have h5 := v3.2.2; rw [h] at h5; exact (Option.some.inj h5).symm) hst (rest_le0 hr) (by rw [hb]; exact d) ?_
  intro vm₁ hw
  exact ⟨p1, p2, p3 vm₁ hw⟩
/-- an argument: the script's place i + k -/
theorem l_arg (L0 : LX p s m b N xs meth c) (hN : N ≤ 144) (hS : LWS s H locs) {i k : Nat} {v1 v2 : Value} (hl : lv_has ls 4 [(0, .ref b), (1, v1), (2, v2), (3, .int (nI i))]) (hik : i + k < N) (hk : k < 100) (d0 : decode cL_law pc = .ok (.aload_n 0, 1)) (d1 : decode cL_law (pc + 1) = .ok (.iload_n 3, 1)) (d2 : decode cL_law (pc + 2) = .ok (.iconst (k : Int), 1)) (d3 : decode cL_law (pc + 3) = .ok (.iadd, 1)) (d4 : decode cL_law (pc + 4) = .ok (.iaload, 1))
    (kk : W p l e room_1 s m #[Value.ref b] below meth c H locs cells slots Q (F0 m (pc + 5) ls (Value.int (xs (i + k)) :: rest))) :
    W p l e room_1 s m #[Value.ref b] below meth c H locs cells slots Q (F0 m pc ls rest) := by
  obtain ⟨hx, hb, -, hml, hown, hts, hX, hbl, -⟩ := L0
  refine lv_aload_n hx hb d0 rfl (lv_at hl 0 rfl) ?_
  refine lv_iload_n hx hb d1 rfl (lv_at hl 3 rfl) ?_
  refine lv_iconst (v := nI k) hx hb d2 rfl ?_
  refine lv_iadd hx hb d3 ?_
  rw [nI_add]
  refine va_sld hx hb hX hbl (Nat.not_le.mpr hbl) hS (vp_in_nI hik (by omega)) d4 ?_
  rw [show (nI (i + k)).toNatClampNeg = i + k from nI_clamp (by omega)]
  exact kk
end LC
