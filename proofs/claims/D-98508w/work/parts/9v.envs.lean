set_option maxRecDepth 100000
/-! ===== the two worlds: the component's cells at base .. base + 30 and from base + 60 on, the model's at base + 31 .. base + 59 ===== -/
def adC (K : Nat → Nat) (B a : Nat) : Nat := if a < 31 then B + a else if a < 1000000000 then B + 29 + a else K a
def adM (K : Nat → Nat) (B a : Nat) : Nat := if a < 1000000000 then B + 31 + a else K a
/-- classes, array classes, constants, base -/
abbrev WE : Type := va_G × (Nat → ClassId) × (Nat → Nat) × Nat
def ev0 (w : WE) : EV := (w.1, w.2.1, adC w.2.2.1 w.2.2.2, fun n => w.2.2.2 + n, fun q => w.2.2.2 ≤ q, fun _ => True, fun _ => 0, 31, 5000, 0)
def ev1 (w : WE) : EV := (w.1, w.2.1, adM w.2.2.1 w.2.2.2, fun n => w.2.2.2 + 31 + n, fun q => w.2.2.2 + 31 ≤ q, fun _ => True, fun _ => 0, 29, 30000, 0)
def evC (w : WE) : EV := (w.1, w.2.1, adC w.2.2.1 w.2.2.2, fun n => w.2.2.2 + 29 + n, fun q => (w.2.2.2 ≤ q ∧ q < w.2.2.2 + 31) ∨ w.2.2.2 + 60 ≤ q, SkC, fun _ => 0, 100000, 5050000, 31)
def evM (w : WE) (z : Nat) : EV := (w.1, w.2.1, adM w.2.2.1 w.2.2.2, fun _ => z, fun q => w.2.2.2 + 31 ≤ q ∧ q < w.2.2.2 + 60, SkM, fun _ => 0, 29, 30000, 29)
theorem adC_inj {K : Nat → Nat} {B a b : Nat} (ha : a < 1000000000) (hb : b < 1000000000) (h : adC K B a = adC K B b) : a = b := by
  unfold adC at h
  by_cases h1 : a < 31 <;> by_cases h2 : b < 31 <;> simp only [h1, h2, ha, hb, if_true, if_false] at h <;> omega
theorem adM_inj {K : Nat → Nat} {B a b : Nat} (ha : a < 1000000000) (hb : b < 1000000000) (h : adM K B a = adM K B b) : a = b := by
  unfold adM at h
  simp only [ha, hb, if_true] at h
  omega
theorem adC_lo {K : Nat → Nat} {B a : Nat} (h : a < 31) : adC K B a = B + a := by unfold adC; rw [if_pos h]
theorem adC_hi {K : Nat → Nat} {B a : Nat} (h : 31 ≤ a) (h2 : a < 1000000000) : adC K B a = B + 29 + a := by unfold adC; rw [if_neg (by omega), if_pos h2]
theorem adM_lo {K : Nat → Nat} {B a : Nat} (h : a < 1000000000) : adM K B a = B + 31 + a := by unfold adM; rw [if_pos h]
theorem adC_k {K : Nat → Nat} {B a : Nat} (h : 1000000000 ≤ a) : adC K B a = K a := by unfold adC; rw [if_neg (by omega), if_neg (by omega)]
theorem adM_k {K : Nat → Nat} {B a : Nat} (h : 1000000000 ≤ a) : adM K B a = K a := by unfold adM; rw [if_neg (by omega)]
theorem ge0 (w : WE) : GE (ev0 w) := by
  refine ⟨fun a b ha hb h => ?_, fun a ha => ?_, fun _ _ _ _ _ => trivial, fun n _ hn => ?_⟩
  · have ha : a < 31 := ha
    have hb : b < 31 := hb
    exact adC_inj (by omega) (by omega) h
  · have ha : a < 31 := ha
    show w.2.2.2 ≤ adC _ _ a
    rw [adC_lo ha]; omega
  · have hn : n < 31 := hn
    show adC _ _ n = w.2.2.2 + n ∧ w.2.2.2 + (n + 1) = w.2.2.2 + n + 1
    rw [adC_lo hn]
    exact ⟨rfl, rfl⟩
theorem ge1 (w : WE) : GE (ev1 w) := by
  refine ⟨fun a b ha hb h => ?_, fun a ha => ?_, fun _ _ _ _ _ => trivial, fun n _ hn => ?_⟩
  · have ha : a < 29 := ha
    have hb : b < 29 := hb
    exact adM_inj (by omega) (by omega) h
  · have ha : a < 29 := ha
    show w.2.2.2 + 31 ≤ adM _ _ a
    rw [adM_lo (by omega)]; omega
  · have hn : n < 29 := hn
    show adM _ _ n = w.2.2.2 + 31 + n ∧ w.2.2.2 + 31 + (n + 1) = w.2.2.2 + 31 + n + 1
    rw [adM_lo (by omega)]
    exact ⟨rfl, rfl⟩
theorem geC (w : WE) : GE (evC w) := by
  refine ⟨fun a b ha hb h => ?_, fun a ha => ?_, fun σ σ' hk hr h => SkC.same h hk hr, fun n h0 hn => ?_⟩
  · have ha : a < 100000 := ha
    have hb : b < 100000 := hb
    exact adC_inj (by omega) (by omega) h
  · have ha : a < 100000 := ha
    show (w.2.2.2 ≤ adC _ _ a ∧ adC _ _ a < w.2.2.2 + 31) ∨ w.2.2.2 + 60 ≤ adC _ _ a
    by_cases h : a < 31
    · rw [adC_lo h]; omega
    · rw [adC_hi (by omega) (by omega)]; omega
  · have h0 : 31 ≤ n := h0
    have hn : n < 100000 := hn
    show adC _ _ n = w.2.2.2 + 29 + n ∧ w.2.2.2 + 29 + (n + 1) = w.2.2.2 + 29 + n + 1
    rw [adC_hi h0 (by omega)]
    exact ⟨rfl, rfl⟩
theorem geM (w : WE) (z : Nat) : GE (evM w z) := by
  refine ⟨fun a b ha hb h => ?_, fun a ha => ?_, fun σ σ' hk hr h => ⟨fun a ha => by rw [hk]; exact h.1 a ha, fun q hq => by rw [hr]; exact h.2 q hq⟩, fun n h0 hn => ?_⟩
  · have ha : a < 29 := ha
    have hb : b < 29 := hb
    exact adM_inj (by omega) (by omega) h
  · have ha : a < 29 := ha
    show w.2.2.2 + 31 ≤ adM _ _ a ∧ adM _ _ a < w.2.2.2 + 60
    rw [adM_lo (by omega)]; omega
  · have h0 : 29 ≤ n := h0
    have hn : n < 29 := hn
    omega
/-- what the Statement gives, once for all environments of these classes and constants -/
def KW (w : WE) (s : State) : Prop := KB (w.1, w.2.1, w.2.2.1, fun _ => 0, fun q => s.heap.size ≤ q, fun _ => True, fun _ => 0, 0, 0, 0) s
theorem KW.kb {w : WE} {s : State} (h : KW w s) {E : EV} (hD : eD E = w.1) (hT : eT E = w.2.1) (hK : ∀ a, 1000000000 ≤ a → eAd E a = w.2.2.1 a) (hA : ∀ q, eA E q → s.heap.size ≤ q) : KB E s := by
  obtain ⟨⟨h1, h2, h3, h4, h5, h6⟩, h7, h8⟩ := h
  have hz : ∀ q ∈ kst, toV (eAd E) q.2.2.2 = toV w.2.2.1 q.2.2.2 := by
    intro q hq
    simp only [kst, List.mem_cons, List.not_mem_nil, or_false] at hq
    rcases hq with rfl | rfl | rfl | rfl | rfl | rfl <;> first | rfl | (show va_rf (some (eAd E _)) = va_rf (some (w.2.2.1 _)); rw [hK _ (by decide)])
  have hT2 : tysE E = tysE (w.1, w.2.1, w.2.2.1, fun _ => 0, fun q => s.heap.size ≤ q, fun _ => True, fun _ => 0, 0, 0, 0) := by
    unfold tysE
    rw [hT]
    rfl
  refine ⟨⟨by rw [hD, hT2]; exact h1, h2, h3, fun q hq => by rw [hK _ (Nat.le_add_right _ _)]; exact h4 q hq, by rw [hK _ (by decide)]; exact h5, h6⟩, fun q hq => ?_, fun i hi => ?_⟩
  · rw [hz q hq]
    exact va_Z.narrow (h7 q hq) hA
  · obtain ⟨g1, g2, g3, g4⟩ := h8 i hi
    rw [hK (1000000000 + i) (by omega), hK (1000000100 + i) (by omega)]
    refine ⟨va_O.narrow g1 hA, ?_, ?_, ?_⟩
    · obtain ⟨cf, k, i, f, cell, z1, z2, z3, z4, z5, z6⟩ := g2
      exact ⟨cf, k, i, f, cell, z1, z2, z3, z4, z5, fun z => z6 (hA _ z)⟩
    · obtain ⟨cf, k, i, f, cell, z1, z2, z3, z4, z5, z6⟩ := g3
      exact ⟨cf, k, i, f, cell, z1, z2, z3, z4, z5, fun z => z6 (hA _ z)⟩
    · obtain ⟨cell, z1, z2, z3, z4, z5, z6, z7⟩ := g4
      exact ⟨cell, z1, z2, z3, z4, z5, z6, fun z => z7 (hA _ z)⟩
theorem KW.k0 {w : WE} {s : State} (h : KW w s) (hB : w.2.2.2 = s.heap.size) : KB (ev0 w) s := h.kb rfl rfl (fun a ha => adC_k ha) fun q hq => by
  have hq : w.2.2.2 ≤ q := hq
  omega
theorem KW.k1 {w : WE} {s : State} (h : KW w s) (hB : w.2.2.2 = s.heap.size) : KB (ev1 w) s := h.kb rfl rfl (fun a ha => adM_k ha) fun q hq => by
  have hq : w.2.2.2 + 31 ≤ q := hq
  omega
theorem KW.kC {w : WE} {s : State} (h : KW w s) (hB : w.2.2.2 = s.heap.size) : KB (evC w) s := h.kb rfl rfl (fun a ha => adC_k ha) fun q hq => by
  have hq : (w.2.2.2 ≤ q ∧ q < w.2.2.2 + 31) ∨ w.2.2.2 + 60 ≤ q := hq
  omega
theorem KW.kM {w : WE} {s : State} (h : KW w s) (hB : w.2.2.2 = s.heap.size) (z : Nat) : KB (evM w z) s := h.kb rfl rfl (fun a ha => adM_k ha) fun q hq => by
  have hq : w.2.2.2 + 31 ≤ q ∧ q < w.2.2.2 + 60 := hq
  omega
/-- both worlds in one heap -/
def LJ (w : WE) (σ τ : St) (H : Heap) : Prop := Rel (evC w) σ H ∧ Rel (evM w H.size) τ H
theorem LJ.c {w : WE} {σ τ σ1 : St} {H H1 : Heap} (h : LJ w σ τ H) (hR : Rel (evC w) σ1 H1) (hz : H.size ≤ H1.size) (hq : ∀ q : Nat, q < H.size → ¬ eA (evC w) q → H1[q]? = H[q]?) : LJ w σ1 τ H1 := by
  obtain ⟨-, r1, r2, r3, r4, r5, r6⟩ := h
  refine ⟨hR, (va_P.kept r1 fun k q hk => hq q.1 (r1 k q hk).lt ?_), rfl, r3, r4, r5, r6⟩
  obtain ⟨h1, rfl⟩ := wof_of hk
  have h2 : sn τ ≤ 29 := r3.2.1
  show ¬ ((w.2.2.2 ≤ adM _ _ k ∧ adM _ _ k < w.2.2.2 + 31) ∨ w.2.2.2 + 60 ≤ adM _ _ k)
  rw [adM_lo (by omega)]
  omega
theorem LJ.m {w : WE} {σ τ τ1 : St} {H H1 : Heap} (h : LJ w σ τ H) (hR : Rel (evM w H.size) τ1 H1) (hq : ∀ q : Nat, q < H.size → ¬ eA (evM w H.size) q → H1[q]? = H[q]?) : LJ w σ τ1 H1 := by
  obtain ⟨⟨r1, r2, r3, r4, r5, r6⟩, -⟩ := h
  have hz : H1.size = H.size := hR.2.1
  refine ⟨⟨va_P.kept r1 fun k q hk => hq q.1 (r1 k q hk).lt ?_, by rw [hz]; exact r2, r3, r4, r5, r6⟩, by rw [hz]; exact hR⟩
  obtain ⟨h1, rfl⟩ := wof_of hk
  have h2 : sn σ ≤ 100000 := r3.2.1
  show ¬ (w.2.2.2 + 31 ≤ adC _ _ k ∧ adC _ _ k < w.2.2.2 + 60)
  by_cases h3 : k < 31
  · rw [adC_lo h3]; omega
  · rw [adC_hi (by omega) (by omega)]; omega
theorem LJ.sk0 {w : WE} {σ τ : St} {H : Heap} (h : LJ w σ τ H) : (sk σ 0).1 = 0 ∧ (sk τ 0).1 = 5 := by
  have h1 : SkC σ := h.1.2.2.2.2.2
  have h2 : SkM τ := h.2.2.2.2.2.2
  rw [h1.1 0 (by decide), h2.1 0 (by decide)]
  exact ⟨rfl, rfl⟩
section LNW
variable {p : Program} {l : Launch} {e : Env} {s : State} {m : MethodId} {b N : Nat} {xs : Nat → Int32} {below : List Frame} {meth : Method} {c : Code} {H : Heap} {locs : List Loc} {cells slots : Nat} {Q : State → Prop}
variable {E : EV} {σ : St} {pc idx : Nat} {ls : Array Slot} {rest : List Value}
theorem l_new (L0 : LX p s m b N xs meth c) (hE : GE E) (hKB : KB E s) (hR : Rel E σ H) (hS : LWS s H locs) {ci Nf : Nat} {C : String} {T : u_T} (ho : okN σ Nf = true) (hc : CL[ci]? = some (C, T, Nf)) (h99 : ci < 99) (hN : cN ci = Nf) (hin : ∀ w ∈ u_ws C T Nf, w ∈ lw_all) (hty : ∀ k, k < Nf → parseFieldDescriptor (T k).2.2.1 = some (cty ci k)) (hok : (List.range Nf).all (fun j => okty (cty ci j)) = true) (w1 : Cond.classLink "RoseThrowLaw" idx C ∈ lw_all) (w2 : Cond.instantiable C Nf ∈ lw_all) (w3 : Cond.initialized C ∈ lw_all) (hsk : eSk E (newO σ (ci, 0) Nf)) (hrm : cells + 1 ≤ 1200048 ∧ slots + Nf ≤ 5501818)
    (d : decode cL_law pc = .ok (.new idx, 3)) (kk : ∀ H1 : Heap, Rel E (newO σ (ci, 0) Nf) H1 → H1.size = H.size + 1 → (∀ q, q < H.size → H1[q]? = H[q]?) → LWS s H1 locs → W p l e room_1 s m #[Value.ref b] below meth c H1 locs (cells + 1) (slots + Nf) Q (F0 m (pc + 3) ls (.ref (eAd E (sn σ)) :: rest))) :
    W p l e room_1 s m #[Value.ref b] below meth c H locs cells slots Q (F0 m pc ls rest) := by
  obtain ⟨hx, hb, -, -, hown, hts, -, -, -⟩ := L0
  have hKn := hKB.1.1.1 ci _ hc
  have hr3 := hR.2.2.1
  have hr4 := hR.2.2.2.1
  have hN0 := hE.2.2.2 (sn σ) hr3.1 (by have := okN_e ho; omega)
  refine W.newcK hx hb hown (hts _ w1) (hts _ w2) (hts _ w3) rfl d hrm.1 hrm.2 hKn.2.1 rfl fun H1 kC hkC f1 z1 o1 => ?_
  have hcof : cof E (newO σ (ci, 0) Nf) (sn σ) = .inr (ci, flds E ci (fun _ => 0) (fun _ => 0) (fun _ => none)) := by
    rw [cof_o (c := ci) (by rw [newO_k]) (by omega), newO_i, newO_l, newO_r]
  have hadd : H.size = eAd E (sn σ) := by rw [hR.2.1, hN0.1]
  have hat : va_at (eD E) CL (eAd E (sn σ), .inr (ci, flds E ci (fun _ => 0) (fun _ => 0) (fun _ => none))) H1 := by
    refine ⟨_, hc, (u_born (cty ci) hts hin hKn hkC (hadd ▸ f1) hty).to fun j hj => ?_⟩
    have h3 : (flds E ci (fun _ => 0) (fun _ => 0) (fun _ => none))[j]? = _ := flds_at (by rw [hN]; exact hj)
    show defaultValue (cty ci j) = vp_V (flds E ci (fun _ => 0) (fun _ => 0) (fun _ => none)) j
    unfold vp_V
    rw [List.getD_eq_getElem?_getD, h3]
    have h5 := List.all_eq_true.mp hok j (List.mem_range.mpr hj)
    revert h5
    cases cty ci j <;> first | exact fun _ => rfl | exact fun h => Bool.noConfusion h
  have hR1 := hR.new (H1 := H1) (kd := (ci, 0)) hE ho (by show ci ≠ 99; omega) hcof hat z1 o1 hsk
  rw [hadd]
  exact kk H1 hR1 z1 o1 ⟨Nat.le_trans hS.1 (by omega), fun x g1 g2 => (o1 x (Nat.lt_of_lt_of_le g1 hS.1)).trans (hS.2.1 x g1 g2), hS.2.2⟩
end LNW
