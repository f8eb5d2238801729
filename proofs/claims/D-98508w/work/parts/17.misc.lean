set_option maxRecDepth 100000
section MM
variable {X : CX} {E E' : EV} {cc : ByteArray} {nL : Nat} {ret ret2 : Option FieldType} {own nm : String} {n0 s0 fr lo fr2 lo2 : Nat} {Q : State → Prop} {σ σ1 : St} {pc : Nat} {L : LV} {rest : List TV} {y : MethodName} {c2 : ByteArray} {nL2 idx : Nat} {As : List TV} {rv : Option TV}
theorem cnt_le (B : FX X E cc nL ret own nm n0 s0 fr lo) {H : Heap} (hR : Rel E σ H) : sn σ - n0 ≤ (xR X).cells ∧ ss σ - s0 ≤ (xR X).slots := by
  have r3 := hR.2.2.1
  rw [B.2.2.2.2.2.2.2.2.2.2.1]
  exact ⟨Nat.sub_le_sub_right r3.2.1 n0, Nat.sub_le_sub_right r3.2.2 s0⟩
theorem room_ge (B : FX X E cc nL ret own nm n0 s0 fr lo) {k : Nat} (hf : 1 ≤ fr) (hlo : 8 + k ≤ lo) (hr : Nat.ble ((rest.map tcat).sum) 8 = true) : 1 ≤ (xR X).frames ∧ ((rest.map (toV (eAd E))).map fun v => v.category).sum + k ≤ (xR X).locals := by
  rw [B.2.2.2.2.2.2.2.2.2.2.1, toV_sum]
  exact ⟨hf, Nat.le_trans (Nat.add_le_add_right (Nat.le_of_ble_eq_true hr) k) hlo⟩
theorem r_mmax (B : FX X E cc nL ret own nm n0 s0 fr lo) {x y : Int32} (w1 : Cond.methodLink own idx Lib.Math.max.name ∈ lw_all) (w2 : Cond.static Lib.Math.max.name ∈ lw_all) (w3 : Cond.initialized "java/lang/Math" ∈ lw_all) (w4 : Cond.code Lib.Math.max.name Lib.Math.max.code 2 (some .int) ∈ lw_all) (hf : 1 ≤ fr) (hlo : 8 + 13 ≤ lo) (hr : Nat.ble ((rest.map tcat).sum) 8 = true) (d : decode cc pc = .ok (.invokestatic idx, 3)) (kk : J X E n0 s0 nL Q σ (pc + 3) L (vi (if x < y then y else x) :: rest)) : J X E n0 s0 nL Q σ pc L (vi y :: vi x :: rest) := by
  intro H locs ls hl hR hS h1 h2
  have hts := B.2.2.2.2.2.2.2.1
  have hc := cnt_le B hR
  have hr2 := room_ge (E := E) B hf hlo hr
  exact va_mmax B.1 B.2.1 (B.2.2.2.1.trans hl.1.symm) B.2.2.2.2.1 (hts _ w1) (hts _ w2) (hts _ w3) (hts _ w4) hr2.1 hr2.2 hc.1 hc.2 d (kk H locs ls hl hR hS h1 h2)
theorem r_mmin (B : FX X E cc nL ret own nm n0 s0 fr lo) {x y : Int32} (w1 : Cond.methodLink own idx Lib.Math.min.name ∈ lw_all) (w2 : Cond.static Lib.Math.min.name ∈ lw_all) (w3 : Cond.initialized "java/lang/Math" ∈ lw_all) (w4 : Cond.code Lib.Math.min.name Lib.Math.min.code 2 (some .int) ∈ lw_all) (hf : 1 ≤ fr) (hlo : 8 + 13 ≤ lo) (hr : Nat.ble ((rest.map tcat).sum) 8 = true) (d : decode cc pc = .ok (.invokestatic idx, 3)) (kk : J X E n0 s0 nL Q σ (pc + 3) L (vi (if y < x then y else x) :: rest)) : J X E n0 s0 nL Q σ pc L (vi y :: vi x :: rest) := by
  intro H locs ls hl hR hS h1 h2
  have hts := B.2.2.2.2.2.2.2.1
  have hc := cnt_le B hR
  have hr2 := room_ge (E := E) B hf hlo hr
  exact va_mmin B.1 B.2.1 (B.2.2.2.1.trans hl.1.symm) B.2.2.2.2.1 (hts _ w1) (hts _ w2) (hts _ w3) (hts _ w4) hr2.1 hr2.2 hc.1 hc.2 d (kk H locs ls hl hR hS h1 h2)
theorem r_mabs (B : FX X E cc nL ret own nm n0 s0 fr lo) {x : Int32} (w1 : Cond.methodLink own idx Lib.Math.abs.name ∈ lw_all) (w2 : Cond.static Lib.Math.abs.name ∈ lw_all) (w3 : Cond.initialized "java/lang/Math" ∈ lw_all) (w4 : Cond.code Lib.Math.abs.name Lib.Math.abs.code 1 (some .int) ∈ lw_all) (hf : 1 ≤ fr) (hlo : 8 + 13 ≤ lo) (hr : Nat.ble ((rest.map tcat).sum) 8 = true) (d : decode cc pc = .ok (.invokestatic idx, 3)) (kk : J X E n0 s0 nL Q σ (pc + 3) L (vi (if 0 ≤ x then x else 0 - x) :: rest)) : J X E n0 s0 nL Q σ pc L (vi x :: rest) := by
  intro H locs ls hl hR hS h1 h2
  have hts := B.2.2.2.2.2.2.2.1
  have hc := cnt_le B hR
  have hr2 := room_ge (E := E) B hf hlo hr
  exact va_mabs B.1 B.2.1 (B.2.2.2.1.trans hl.1.symm) B.2.2.2.2.1 (hts _ w1) (hts _ w2) (hts _ w3) (hts _ w4) hr2.1 hr2.2 hc.1 hc.2 d (kk H locs ls hl hR hS h1 h2)
theorem r_lmax (B : FX X E cc nL ret own nm n0 s0 fr lo) {x y : Int64} (w1 : Cond.methodLink own idx Lib.MathLoose.max_long.x ∈ lw_all) (w2 : Cond.static Lib.MathLoose.max_long.x ∈ lw_all) (w3 : Cond.initialized "java/lang/Math" ∈ lw_all) (w4 : Cond.code Lib.MathLoose.max_long.x Lib.MathLoose.max_long.code 4 (some .long) ∈ lw_all) (hf : 1 ≤ fr) (hlo : 8 + 15 ≤ lo) (hr : Nat.ble ((rest.map tcat).sum) 8 = true) (d : decode cc pc = .ok (.invokestatic idx, 3)) (kk : J X E n0 s0 nL Q σ (pc + 3) L (vl (if y < x then x else y) :: rest)) : J X E n0 s0 nL Q σ pc L (vl y :: vl x :: rest) := by
  intro H locs ls hl hR hS h1 h2
  have hts := B.2.2.2.2.2.2.2.1
  have hc := cnt_le B hR
  have hr2 := room_ge (E := E) B hf hlo hr
  exact va_mmax_long B.1 B.2.1 (B.2.2.2.1.trans hl.1.symm) B.2.2.2.2.1 (hts _ w1) (hts _ w2) (hts _ w3) (hts _ w4) hr2.1 hr2.2 hc.1 hc.2 d (kk H locs ls hl hR hS h1 h2)
theorem r_lmin (B : FX X E cc nL ret own nm n0 s0 fr lo) {x y : Int64} (w1 : Cond.methodLink own idx Lib.MathLoose.min_long.x ∈ lw_all) (w2 : Cond.static Lib.MathLoose.min_long.x ∈ lw_all) (w3 : Cond.initialized "java/lang/Math" ∈ lw_all) (w4 : Cond.code Lib.MathLoose.min_long.x Lib.MathLoose.min_long.code 4 (some .long) ∈ lw_all) (hf : 1 ≤ fr) (hlo : 8 + 15 ≤ lo) (hr : Nat.ble ((rest.map tcat).sum) 8 = true) (d : decode cc pc = .ok (.invokestatic idx, 3)) (kk : J X E n0 s0 nL Q σ (pc + 3) L (vl (if y < x then y else x) :: rest)) : J X E n0 s0 nL Q σ pc L (vl y :: vl x :: rest) := by
  intro H locs ls hl hR hS h1 h2
  have hts := B.2.2.2.2.2.2.2.1
  have hc := cnt_le B hR
  have hr2 := room_ge (E := E) B hf hlo hr
  exact va_mmin_long B.1 B.2.1 (B.2.2.2.1.trans hl.1.symm) B.2.2.2.2.1 (hts _ w1) (hts _ w2) (hts _ w3) (hts _ w4) hr2.1 hr2.2 hc.1 hc.2 d (kk H locs ls hl hR hS h1 h2)
theorem r_gets (i : Nat) (B : FX X E cc nL ret own nm n0 s0 fr lo) {C n dd : String} {t : TV} (hq : kst[i]? = some (C, n, dd, t)) (w1 : Cond.fieldLink own idx C n dd ∈ lw_all) (d : decode cc pc = .ok (.getstatic idx, 3)) (kk : J X E n0 s0 nL Q σ (pc + 3) L (t :: rest)) : J X E n0 s0 nL Q σ pc L rest :=
  fun H locs ls hl hR hS h1 h2 => va_gets B.1 B.2.1 (B.2.2.2.2.2.2.2.2.1.2.1 _ (List.mem_of_getElem? hq)) hS B.2.2.2.2.1 (B.2.2.2.2.2.2.2.1 _ w1) (fun _ h => h) d (kk H locs ls hl hR hS h1 h2)
/-- a text -/
theorem r_ldcS (i : Nat) (B : FX X E cc nL ret own nm n0 s0 fr lo) {tx : String} {k : Nat} {o : Option Nat} (hq : kstr[i]? = some (own, idx, tx, k)) (ho : o = some (1000000000 + k)) (d : decode cc pc = .ok (.ldc idx, 2)) (kk : J X E n0 s0 nL Q σ (pc + 2) L (vr o :: rest)) : J X E n0 s0 nL Q σ pc L rest := by
  subst ho
  exact fun H locs ls hl hR hS h1 h2 => va_ldcS B.1 B.2.1 B.2.2.2.2.1 (B.2.2.2.2.2.2.2.2.1.1.2.2.2.1 _ (List.mem_of_getElem? hq)) d (kk H locs ls hl hR hS h1 h2)
def isS (a : Nat) : Bool := Nat.ble 1000000000 a && Nat.blt a (1000000000 + 45)
def isSA (a : Nat) : Bool := Nat.ble 1000000100 a && Nat.blt a (1000000100 + 45)
theorem isS_e {a : Nat} (h : isS a = true) : ∃ i, i < 45 ∧ a = 1000000000 + i := by
  unfold isS at h
  rw [Bool.and_eq_true, Nat.ble_eq, blt_t] at h
  exact ⟨a - 1000000000, by omega, by omega⟩
theorem isSA_e {a : Nat} (h : isSA a = true) : ∃ i, i < 45 ∧ a = 1000000100 + i := by
  unfold isSA at h
  rw [Bool.and_eq_true, Nat.ble_eq, blt_t] at h
  exact ⟨a - 1000000100, by omega, by omega⟩
theorem r_sval (B : FX X E cc nL ret own nm n0 s0 fr lo) {a : Nat} {o : Option Nat} (ho : o = some a) (hg : isS a = true) (w1 : Cond.fieldLink own idx "java/lang/String" "value" "[B" ∈ lw_all) (d : decode cc pc = .ok (.getfield idx, 3)) (kk : J X E n0 s0 nL Q σ (pc + 3) L (vr (some (a + 100)) :: rest)) : J X E n0 s0 nL Q σ pc L (vr o :: rest) := by
  subst ho
  obtain ⟨i, hi, rfl⟩ := isS_e hg
  intro H locs ls hl hR hS h1 h2
  have kk2 := kk H locs ls hl hR hS h1 h2
  rw [show 1000000000 + i + 100 = 1000000100 + i by omega] at kk2
  exact vk_getf B.1 B.2.1 (B.2.2.2.2.2.2.2.2.1.2.2 i hi).2.2.1 hS B.2.2.2.2.1 (B.2.2.2.2.2.2.2.1 _ w1) (fun _ h => h) d kk2
theorem r_scod (B : FX X E cc nL ret own nm n0 s0 fr lo) {a : Nat} {o : Option Nat} (ho : o = some a) (hg : isS a = true) (w1 : Cond.fieldLink own idx "java/lang/String" "coder" "B" ∈ lw_all) (d : decode cc pc = .ok (.getfield idx, 3)) (kk : J X E n0 s0 nL Q σ (pc + 3) L (vi 0 :: rest)) : J X E n0 s0 nL Q σ pc L (vr o :: rest) := by
  subst ho
  obtain ⟨i, hi, rfl⟩ := isS_e hg
  exact fun H locs ls hl hR hS h1 h2 => vk_getf B.1 B.2.1 (B.2.2.2.2.2.2.2.2.1.2.2 i hi).2.1 hS B.2.2.2.2.1 (B.2.2.2.2.2.2.2.1 _ w1) (fun _ h => h) d (kk H locs ls hl hR hS h1 h2)
theorem r_salen (B : FX X E cc nL ret own nm n0 s0 fr lo) {a : Nat} {o : Option Nat} (ho : o = some a) (hg : isSA a = true) (d : decode cc pc = .ok (.arraylength, 1)) (kk : J X E n0 s0 nL Q σ (pc + 1) L (vi (nI (slen.getD (a - 1000000100) 0)) :: rest)) : J X E n0 s0 nL Q σ pc L (vr o :: rest) := by
  subst ho
  obtain ⟨i, hi, rfl⟩ := isSA_e hg
  intro H locs ls hl hR hS h1 h2
  have kk2 := kk H locs ls hl hR hS h1 h2
  rw [show 1000000100 + i - 1000000100 = i by omega] at kk2
  exact va_tlen B.1 B.2.1 (B.2.2.2.2.2.2.2.2.1.2.2 i hi).2.2.2 hS rfl d kk2
theorem r_sbald (B : FX X E cc nL ret own nm n0 s0 fr lo) {a : Nat} {j : Int32} {o : Option Nat} (ho : o = some a) (hg : isSA a = true) (hin : inb j (slen.getD (a - 1000000100) 0) = true) (d : decode cc pc = .ok (.baload, 1)) (kk : J X E n0 s0 nL Q σ (pc + 1) L (vi ((sbyt.getD (a - 1000000100) []).getD j.toNatClampNeg 0) :: rest)) : J X E n0 s0 nL Q σ pc L (vi j :: vr o :: rest) := by
  subst ho
  obtain ⟨i, hi, rfl⟩ := isSA_e hg
  intro H locs ls hl hR hS h1 h2
  have kk2 := kk H locs ls hl hR hS h1 h2
  rw [show 1000000100 + i - 1000000100 = i by omega] at kk2 hin
  exact va_tb B.1 B.2.1 (B.2.2.2.2.2.2.2.2.1.2.2 i hi).2.2.2 hS (inb_e hin) rfl d kk2
theorem k_recv (B : FX X E cc nL ret own nm n0 s0 fr lo) {H : Heap} {locs : List Loc} (hS : va_S (eA E) (xS X).heap H locs) {a : Nat} (hg : isS a = true) : ∃ cell : Cell, H[eAd E a]? = some cell ∧ cell.vm.isStatics = false ∧ (xS X).vm.findClass "java/lang/String" = some cell.cls := by
  obtain ⟨i, hi, rfl⟩ := isS_e hg
  obtain ⟨cell, g1, g2, g3, -⟩ := (B.2.2.2.2.2.2.2.2.1.2.2 i hi).1.kept hS.2.1
  exact ⟨cell, g1, g2, g3⟩
theorem r_callK (B : FX X E cc nL ret own nm n0 s0 fr lo) {a : Nat} {o : Option Nat} {v : TV} {st : List TV} (hst : st = As.reverse ++ vr o :: rest) (ho : o = some a) (hX : EX E E' σ σ1) (hC : CT (xL X) E' y c2 nL2 ret2 fr2 lo2 (vr (some a) :: As) σ (some v) σ1) (hW : CW X fr lo y c2 nL2 ret2 fr2 lo2 As.length) (hg : isS a = true) (w3 : Cond.selects "java/lang/String" y y ∈ lw_all) (w1 : Cond.methodLink own idx y ∈ lw_all) (w2 : Cond.instanceMethod y ∈ lw_all)
    (hr : Nat.ble ((rest.map tcat).sum) 8 = true) (d : decode cc pc = .ok (.invokevirtual idx, 3)) (kk : J X E n0 s0 nL Q σ1 (pc + 3) L (v :: rest)) : J X E n0 s0 nL Q σ pc L st := by
  subst hst
  subst ho
  intro H locs ls hl hR hS h1 h2
  have hts := B.2.2.2.2.2.2.2.1
  have hK := z_K (len := 3) B hC hW
  obtain ⟨cellB, hcB, hoB, hclB⟩ := k_recv B hS hg
  obtain ⟨f, rfl, hf1, hf2⟩ := id hX
  obtain ⟨v1, v2, v3, -, -⟩ := hW
  refine z_fin (len := 3) (As := vr (some a) :: As) (rv := some v) B hX hl hR hS h1 h2 (fun T hT S hp => ?_) kk
  obtain ⟨p1, p2, p3⟩ := hp hT
  refine callV S B.1 (C := "java/lang/String") (bytes := c2) (maxL := nL2) (ret := ret2) B.2.2.2.2.1 (hts _ w1) (hts _ w2) (hts _ w3) (hts _ v1) ⟨v3.1, v3.2.1⟩ hK (b := eAd E a) (by rw [hT]; exact hcB) hoB hclB (g := F0 (xM X) pc ls _) rfl (hl.1.trans B.2.2.2.1.symm) (argsL := As.map (toV (eAd E))) (rest := rest.map (toV (eAd E))) (fun sig h => by have h5 := v3.2.2; rw [h] at h5; rw [List.length_map]; exact (Option.some.inj h5).symm) ?_ (rest_le hr) (by rw [B.2.1]; exact d) ?_
  · simp [toV, va_rf]
  · intro vm₁ hw
    exact ⟨p1, p2, p3 vm₁ hw⟩

def castO_ok : ∀ c, c < 19 → ∃ r, CL[c]? = some r ∧ Cond.castable r.1 "java/lang/Object" ∈ lw_nest := fun c h => match c, h with
  | 0, _ => ⟨_, rfl, lw_n q2267 rfl⟩
  | 1, _ => ⟨_, rfl, lw_n q2265 rfl⟩
  | 2, _ => ⟨_, rfl, lw_n q2269 rfl⟩
  | 3, _ => ⟨_, rfl, lw_n q2270 rfl⟩
  | 4, _ => ⟨_, rfl, lw_n q2266 rfl⟩
  | 5, _ => ⟨_, rfl, lw_n q2271 rfl⟩
  | 6, _ => ⟨_, rfl, lw_n q2272 rfl⟩
  | 7, _ => ⟨_, rfl, lw_n q2273 rfl⟩
  | 8, _ => ⟨_, rfl, lw_n q2274 rfl⟩
  | 9, _ => ⟨_, rfl, lw_n q2275 rfl⟩
  | 10, _ => ⟨_, rfl, lw_n q2276 rfl⟩
  | 11, _ => ⟨_, rfl, lw_n q2277 rfl⟩
  | 12, _ => ⟨_, rfl, lw_n q2278 rfl⟩
  | 13, _ => ⟨_, rfl, lw_n q2279 rfl⟩
  | 14, _ => ⟨_, rfl, lw_n q2280 rfl⟩
  | 15, _ => ⟨_, rfl, lw_n q2283 rfl⟩
  | 16, _ => ⟨_, rfl, lw_n q2281 rfl⟩
  | 17, _ => ⟨_, rfl, lw_n q2282 rfl⟩
  | 18, _ => ⟨_, rfl, lw_n q2268 rfl⟩
  | n + 19, h => absurd h (by omega)
theorem z_any (B : FX X E cc nL ret own nm n0 s0 fr lo) {H : Heap} (hR : Rel E σ H) {a : Nat} (h : (sk σ a).1 < 19) : va_Any "java/lang/Object" (xS X) H (eAd E a) := by
  obtain ⟨r, hc, hw⟩ := castO_ok _ h
  obtain ⟨cell, f1, f2, f3⟩ := z_recv (C := r.1) (T := r.2.1) (N := r.2.2) B hR rfl (by omega) hc
  obtain ⟨-, ⟨hfc, kC, hkC, -⟩⟩ := B.2.2.2.2.2.2.2.2.1.1.1.1 _ _ hc
  refine ⟨cell, f1, f2, ?_, fun comp hcomp => vb_asgC (B.2.2.2.2.2.2.2.2.1.1.2.1 _ hw) comp cell.cls hcomp f3⟩
  exact ⟨kC, by rw [Option.some.inj (f3.symm.trans hfc)]; exact hkC⟩
theorem r_aastO (B : FX X E cc nL ret own nm n0 s0 fr lo) {a n b : Nat} {i : Int32} {o v : Option Nat} (e1 : σ1 = setR σ a i.toNatClampNeg v) (ho : o = some a) (hk : eSk E σ → sk σ a = (100 + 4, n)) (hin : inb i n = true) (hv : v = some b) (hkb : Nat.blt (sk σ b).1 19 = true) (hsk : eSk E σ → eSk E σ1) (d : decode cc pc = .ok (.aastore, 1)) (kk : J X E n0 s0 nL Q σ1 (pc + 1) L rest) : J X E n0 s0 nL Q σ pc L (vr v :: vi i :: vr o :: rest) := by
  subst hv
  subst e1
  subst ho
  intro H locs ls hl hR hS h1 h2
  have hka := hk hR.2.2.2.2.2
  have hlt := hR.lt (a := a) (by rw [hka]; show 100 + _ ≠ 99; omega)
  have hwa := (wof_at (E := E) hlt).trans (by rw [cof_a hka])
  have e4 : ∀ (x : Nat → Int32) (y : Nat → Int64) (z : Nat → Option Nat), apay E 4 x y z n = (n, .inr (.inr (.inr (.inr fun j => (z j).map (eAd E))))) := fun _ _ _ => rfl
  rw [e4] at hwa
  refine va_astqM B.1 B.2.1 B.2.2.2.2.2.2.2.2.1.1.1 hR.1 (wof_D B.ge hR.2.2.1.2.1) hS a 4 hwa ((tysE_at E (t := 4) (by decide)).trans rfl) (z_any B hR (blt_t.mp hkb)) (inb_e hin) d (fun H1 locs1 hP1 hD1 hS1 => ?_)
  have hP2 := hR.arr (σ' := setR σ a i.toNatClampNeg (some b)) hka (p := (n, .inr (.inr (.inr (.inr (va_up (fun j => (sr σ a j).map (eAd E)) i.toNatClampNeg (some (eAd E b)))))))) (by rw [e4, up_map, show sr (setR σ a i.toNatClampNeg (some b)) a = _ from up2_row]) (fun b e => cof_same rfl rfl rfl (up2_a e)) rfl rfl hP1
  refine W_sz (σ1 := setR σ a i.toNatClampNeg (some b)) B h1 ⟨hR.2.2.1.1, hR.2.2.1.2.1⟩ hP2 hS1 (fun hz => ?_)
  exact kk H1 locs1 ls hl ⟨hP2, hz, hR.2.2.1, hR.2.2.2.1, hR.2.2.2.2.1, hsk hR.2.2.2.2.2⟩ hS1 h1 h2
theorem r_aastQ (t : Nat) (C : String) (htt : 4 ≤ t ∧ t < 7 ∧ aty t = .object C) (B : FX X E cc nL ret own nm n0 s0 fr lo) {a n b c : Nat} {T : u_T} {N : Nat} {C2 : String} {i : Int32} {o v : Option Nat} (e1 : σ1 = setR σ a i.toNatClampNeg v) (ho : o = some a) (hk : eSk E σ → sk σ a = (100 + t, n)) (hin : inb i n = true) (hv : v = some b) (hkb : (sk σ b).1 = c) (h99 : c < 99) (hc : CL[c]? = some (C2, T, N)) (hCC : C2 = C) (hsk : eSk E σ → eSk E σ1) (d : decode cc pc = .ok (.aastore, 1)) (kk : J X E n0 s0 nL Q σ1 (pc + 1) L rest) : J X E n0 s0 nL Q σ pc L (vr v :: vi i :: vr o :: rest) := by
  subst hv
  subst e1
  subst ho
  subst hCC
  intro H locs ls hl hR hS h1 h2
  have hka := hk hR.2.2.2.2.2
  have hlt := hR.lt (a := a) (by rw [hka]; show 100 + _ ≠ 99; omega)
  have hwa := (wof_at (E := E) hlt).trans (by rw [cof_a hka])
  have e4 : ∀ (x : Nat → Int32) (y : Nat → Int64) (z : Nat → Option Nat), apay E t x y z n = (n, .inr (.inr (.inr (.inr fun j => (z j).map (eAd E))))) := by
    have : t = 4 ∨ t = 5 ∨ t = 6 := by omega
    rcases this with rfl | rfl | rfl <;> exact fun _ _ _ => rfl
  rw [e4] at hwa
  have hltb := hR.lt (a := b) (by rw [hkb]; omega)
  refine va_astq B.1 B.2.1 B.2.2.2.2.2.2.2.2.1.1.1 hR.1 (wof_D B.ge hR.2.2.1.2.1) hS a t b c (r := (C2, T, N)) hwa ((tysE_at E htt.2.1).trans (by rw [htt.2.2])) ((wof_at hltb).trans (by rw [cof_o hkb (by omega)])) hc (inb_e hin) d (fun H1 locs1 hP1 hD1 hS1 => ?_)
  have hP2 := hR.arr (σ' := setR σ a i.toNatClampNeg (some b)) hka (p := (n, .inr (.inr (.inr (.inr (va_up (fun j => (sr σ a j).map (eAd E)) i.toNatClampNeg (some (eAd E b)))))))) (by rw [e4, up_map, show sr (setR σ a i.toNatClampNeg (some b)) a = _ from up2_row]) (fun b e => cof_same rfl rfl rfl (up2_a e)) rfl rfl hP1
  refine W_sz (σ1 := setR σ a i.toNatClampNeg (some b)) B h1 ⟨hR.2.2.1.1, hR.2.2.1.2.1⟩ hP2 hS1 (fun hz => ?_)
  exact kk H1 locs1 ls hl ⟨hP2, hz, hR.2.2.1, hR.2.2.2.1, hR.2.2.2.2.1, hsk hR.2.2.2.2.2⟩ hS1 h1 h2
/-- the elements are objects -/
def okE (σ : St) (a sp n : Nat) : Bool := (List.range n).all fun i => match sr σ a (sp + i) with
  | none => true
  | some y => Nat.blt (sk σ y).1 19
theorem okE_e {σ : St} {a sp n : Nat} (h : okE σ a sp n = true) {i y : Nat} (hi : i < n) (hy : sr σ a (sp + i) = some y) : (sk σ y).1 < 19 := by
  have := List.all_eq_true.mp h i (List.mem_range.mpr hi)
  rw [hy] at this
  exact blt_t.mp this
theorem r_copyR (B : FX X E cc nL ret own nm n0 s0 fr lo) {a b na nb idx : Nat} {o1 o2 : Option Nat} {sp dp n : Int32} (e1 : σ1 = cpyR σ a sp.toNatClampNeg b dp.toNatClampNeg n.toNatClampNeg) (h1 : o1 = some a) (h2 : o2 = some b) (hk1 : eSk E σ → sk σ a = (100 + 4, na)) (hk2 : eSk E σ → sk σ b = (100 + 4, nb)) (hg : okC sp dp n na nb = true) (he : okE σ a sp.toNatClampNeg n.toNatClampNeg = true) (hsk : eSk E σ → eSk E σ1)
    (w1 : Cond.methodLink own idx arraycopyName ∈ lw_all) (w2 : Cond.native arraycopyName ∈ lw_all) (w3 : Cond.static arraycopyName ∈ lw_all) (w4 : Cond.initialized "java/lang/System" ∈ lw_all) (hf : 1 ≤ fr) (hlo : 60 ≤ lo) (hr : Nat.ble ((rest.map tcat).sum) 8 = true) (d : decode cc pc = .ok (.invokestatic idx, 3)) (kk : J X E n0 s0 nL Q σ1 (pc + 3) L rest) : J X E n0 s0 nL Q σ pc L (vi n :: vi dp :: vr o2 :: vi sp :: vr o1 :: rest) := by
  subst h1
  subst h2
  subst e1
  intro H locs ls hl hR hS g1 g2
  have hts := B.2.2.2.2.2.2.2.1
  have hRm := B.2.2.2.2.2.2.2.2.2.2.1
  have hKF := B.2.2.2.2.2.2.2.2.1.1.1
  have k1 := hk1 hR.2.2.2.2.2
  have k2 := hk2 hR.2.2.2.2.2
  have l1 := hR.lt (a := a) (by rw [k1]; show 100 + _ ≠ 99; omega)
  have l2 := hR.lt (a := b) (by rw [k2]; show 100 + _ ≠ 99; omega)
  obtain ⟨q1, q2, q3, q4, q5⟩ := okC_e hg
  have e5 : va_cpy (fun j => (sr σ a j).map (eAd E)) (fun j => (sr σ b j).map (eAd E)) sp.toNatClampNeg dp.toNatClampNeg n.toNatClampNeg = fun j => (va_cpy (sr σ a) (sr σ b) sp.toNatClampNeg dp.toNatClampNeg n.toNatClampNeg j).map (eAd E) := by
    funext j
    unfold va_cpy
    split <;> rfl
  refine va_copyM B.1 B.2.1 (B.2.2.2.1.trans hl.1.symm) B.2.2.2.2.1 (hts _ w1) (hts _ w2) (hts _ w3) (hts _ w4) hKF hR.1 (wof_D B.ge hR.2.2.1.2.1) hS a b 4 4 ((wof_at l1).trans (by rw [cof_a k1]; rfl)) ((wof_at l2).trans (by rw [cof_a k2]; rfl)) ((tysE_at E (t := 4) (by decide)).trans rfl) ((tysE_at E (t := 4) (by decide)).trans rfl) q1 q2 q3 q4 q5 (fun i hi z hz => ?_) (by rw [hRm]; exact hf) (by
    rw [hRm, toV_sum]
    have := Nat.le_of_ble_eq_true hr
    exact Nat.le_trans (Nat.add_le_add_right this _) (Nat.le_trans (by decide) hlo)) d (fun H1 locs1 hP1 hD1 hS1 => ?_)
  · cases h3 : sr σ a (sp.toNatClampNeg + i) with
    | none => rw [h3] at hz; cases hz
    | some w =>
      rw [h3] at hz
      cases hz
      exact z_any B hR (okE_e he hi h3)
  have hP2 := hR.arr (σ' := cpyR σ a sp.toNatClampNeg b dp.toNatClampNeg n.toNatClampNeg) k2 (p := (nb, .inr (.inr (.inr (.inr (va_cpy (fun j => (sr σ a j).map (eAd E)) (fun j => (sr σ b j).map (eAd E)) sp.toNatClampNeg dp.toNatClampNeg n.toNatClampNeg)))))) (by show apay E 4 _ _ (if b = b then _ else _) nb = _; rw [if_pos rfl, e5]; rfl) (fun x e => cof_same rfl rfl rfl (by show (if x = b then _ else sr σ x) = _; rw [if_neg e])) rfl rfl hP1
  refine W_sz (σ1 := cpyR σ a sp.toNatClampNeg b dp.toNatClampNeg n.toNatClampNeg) B g1 ⟨hR.2.2.1.1, hR.2.2.1.2.1⟩ hP2 hS1 (fun hz => ?_)
  exact kk H1 locs1 ls hl ⟨hP2, hz, hR.2.2.1, hR.2.2.2.1, hR.2.2.2.2.1, hsk hR.2.2.2.2.2⟩ hS1 g1 g2
/-- checkcast of an object of a class that fits -/
theorem r_cast (B : FX X E cc nL ret own nm n0 s0 fr lo) {a : Nat} {nm2 : String} {o : Option Nat} (ho : o = some a) (hk : eSk E σ → ∃ (c : Nat) (C : String) (T : u_T) (N : Nat), (sk σ a).1 = c ∧ c < 99 ∧ CL[c]? = some (C, T, N) ∧ Cond.castable C nm2 ∈ lw_nest) (w1 : Cond.classLink own idx nm2 ∈ lw_all) (d : decode cc pc = .ok (.checkcast idx, 3)) (kk : J X E n0 s0 nL Q σ (pc + 3) L (vr o :: rest)) : J X E n0 s0 nL Q σ pc L (vr o :: rest) := by
  subst ho
  intro H locs ls hl hR hS h1 h2
  obtain ⟨c, C, T, N, k1, k2, k3, k4⟩ := hk hR.2.2.2.2.2
  exact va_castY B.1 B.2.1 B.2.2.2.2.1 (B.2.2.2.2.2.2.2.1 _ w1) (B.2.2.2.2.2.2.2.2.1.1.2.1 _ k4) (z_recv B hR k1 k2 k3) d (kk H locs ls hl hR hS h1 h2)
/-- .. to its own class -/
theorem r_castS (B : FX X E cc nL ret own nm n0 s0 fr lo) {a c : Nat} {C : String} {T : u_T} {N : Nat} {o : Option Nat} (ho : o = some a) (hk : eSk E σ → (sk σ a).1 = c) (h99 : c < 99) (hc : CL[c]? = some (C, T, N)) (w1 : Cond.classLink own idx C ∈ lw_all) (d : decode cc pc = .ok (.checkcast idx, 3)) (kk : J X E n0 s0 nL Q σ (pc + 3) L (vr o :: rest)) : J X E n0 s0 nL Q σ pc L (vr o :: rest) := by
  subst ho
  intro H locs ls hl hR hS h1 h2
  exact va_castS B.1 B.2.1 B.2.2.2.2.1 (B.2.2.2.2.2.2.2.1 _ w1) (B.2.2.2.2.2.2.2.2.1.1.1.1 _ _ hc).2 (z_recv B hR (hk hR.2.2.2.2.2) h99 hc) d (kk H locs ls hl hR hS h1 h2)
theorem r_ac_ne (B : FX X E cc nL ret own nm n0 s0 fr lo) {x y : Option Nat} {off : Int} {tgt : Nat} (d : decode cc pc = .ok (.if_acmp .ne off, 3)) (ht : (pc : Int) + off = (tgt : Int)) (hxy : x = y) (kf : J X E n0 s0 nL Q σ (pc + 3) L rest) : J X E n0 s0 nL Q σ pc L (vr y :: vr x :: rest) := by
  subst hxy
  intro H locs ls hl hR hS h1 h2
  exact lv_acmp_ne (rx := x.map (eAd E)) (ry := x.map (eAd E)) B.1 B.2.1 d ht (fun c => absurd rfl c) (fun _ => kf H locs ls hl hR hS h1 h2)
/-- getClass() of an array of objects; the class constant -/
theorem r_getC (B : FX X E cc nL ret own nm n0 s0 fr lo) {a n : Nat} {o : Option Nat} (ho : o = some a) (hk : eSk E σ → sk σ a = (100 + 4, n)) (w1 : Cond.methodLink own idx ⟨"java/lang/Object", "getClass", "()Ljava/lang/Class;"⟩ ∈ lw_all) (hf : 1 ≤ fr) (hlo : 60 ≤ lo) (hr : Nat.ble ((rest.map tcat).sum) 8 = true) (d : decode cc pc = .ok (.invokevirtual idx, 3)) (kk : J X E n0 s0 nL Q σ (pc + 3) L (vr (some 1000000905) :: rest)) : J X E n0 s0 nL Q σ pc L (vr o :: rest) := by
  subst ho
  intro H locs ls hl hR hS h1 h2
  have hts := B.2.2.2.2.2.2.2.1
  have hka := hk hR.2.2.2.2.2
  have hlt := hR.lt (a := a) (by rw [hka]; show 100 + _ ≠ 99; omega)
  have hwa : H[eAd E a]? = some (vp_cell (eT E 4) (apay E 4 (si σ a) (sl σ a) (sr σ a) n)) := hR.1 a (eAd E a, .inl (eT E 4, apay E 4 (si σ a) (sl σ a) (sr σ a) n)) ((wof_at (E := E) hlt).trans (by rw [cof_a hka]))
  have hr2 := room_ge (E := E) (k := 14) B hf (by omega) hr
  have hRA := (B.2.2.2.2.2.2.2.2.1.1.1.2 4 _ (tysE_at E (t := 4) (by decide))).2
  obtain ⟨kA, comp, -, -, -, h5⟩ : va_RA (xS X) (eT E 4) (.object "java/lang/Object") := hRA
  exact va_getC (C := "[Ljava/lang/Object;") B.1 B.2.1 (B.2.2.2.1.trans hl.1.symm) B.2.2.2.2.1 (hts _ w1) (va_Nw.use rfl (B.2.2.2.2.2.2.2.2.1.1.2.1 _ (lw_n q2288 rfl))) (hts _ q2287) (hts _ q484) (hts _ q505) B.2.2.2.2.2.2.2.2.1.1.2.2.2.2.1 ⟨_, hwa, rfl, h5⟩ hr2.1 hr2.2 d (kk H locs ls hl hR hS h1 h2)
theorem r_ldcM (B : FX X E cc nL ret own nm n0 s0 fr lo) (w1 : Cond.classLink own idx "[Ljava/lang/Object;" ∈ lw_all) (d : decode cc pc = .ok (.ldc idx, 2)) (kk : J X E n0 s0 nL Q σ (pc + 2) L (vr (some 1000000905) :: rest)) : J X E n0 s0 nL Q σ pc L rest :=
  fun H locs ls hl hR hS h1 h2 => va_ldcM B.1 B.2.1 B.2.2.2.2.1 (B.2.2.2.2.2.2.2.1 _ w1) B.2.2.2.2.2.2.2.2.1.1.2.2.2.2.1 d (kk H locs ls hl hR hS h1 h2)
def okL (n : Int32) : Bool := !(decide (n < 0)) && Nat.ble (n.toNatClampNeg * 4) 536870912
theorem okL_e {n : Int32} (h : okL n = true) : ¬ n < 0 ∧ Nat.ble (n.toNatClampNeg * 4) 536870912 = true := by
  unfold okL at h
  rw [Bool.and_eq_true, Bool.not_eq_true', decide_eq_false_iff_not] at h
  exact h
/-! methods with handlers -/
def CTW (l : Launch) (E : EV) (y : MethodName) (cc : ByteArray) (nL : Nat) (ret : Option FieldType) (hh : List (Nat × Nat × Nat × Nat)) (fr lo : Nat) (As : List TV) (σ : St) (rv : Option TV) (σ' : St) : Prop :=
  Met l y (wsW_ y cc nL ret hh) ({ frames := fr, cells := eMx E - sn σ, slots := eMs E - ss σ, locals := lo } : Room) (va_Pc (As.map (toV (eAd E))) (fun U => Rel E σ U.heap ∧ KB E U)) (QC E σ rv σ') (sn σ' - sn σ) (ss σ' - ss σ) (eA E)
def CWW (X : CX) (fr lo : Nat) (y : MethodName) (c2 : ByteArray) (nL2 : Nat) (ret2 : Option FieldType) (hh : List (Nat × Nat × Nat × Nat)) (fr2 lo2 n : Nat) : Prop :=
  Cond.codeWith y c2 nL2 ret2 hh ∈ lw_all ∧ Cond.initialized y.cls ∈ lw_all ∧ (y.cls ≠ "java/lang/invoke/MethodHandle" ∧ y.cls ≠ "java/lang/invoke/VarHandle" ∧ (parseMethodDescriptor y.desc).map (fun d => d.parameters.length) = some n) ∧ fr2 + 1 ≤ fr ∧ 8 + (nL2 + 11) + lo2 ≤ lo
theorem z_KW {hh : List (Nat × Nat × Nat × Nat)} (B : FX X E cc nL ret own nm n0 s0 fr lo) {n : Nat} (hC : CTW (xL X) E' y c2 nL2 ret2 hh fr2 lo2 As σ rv σ1) (hW : CWW X fr lo y c2 nL2 ret2 hh fr2 lo2 n) :
    Back (xL X) (xR X) (xP X) (xE X) (xB X) (xS X) (xA X) y 3 8 (PreO (xR X) ({ frames := fr2, cells := eMx E' - sn σ, slots := eMs E' - ss σ, locals := lo2 } : Room) (va_Pc (As.map (toV (eAd E'))) (fun U => Rel E' σ U.heap ∧ KB E' U))) (PostOf (QC E' σ rv σ1) (sn σ1 - sn σ) (ss σ1 - ss σ) (eA E')) := by
  have hts := B.2.2.2.2.2.2.2.1
  have hR := B.2.2.2.2.2.2.2.2.2.2.1
  obtain ⟨w1, w2, -, w3, w4⟩ := hW
  have hws := pay_in hts (lw_methW w1)
  refine Back.of_freeWith (handlers := hh) (S := headSpec (wsW_ y c2 nL2 ret2 hh) _) (P := va_Pc (As.map (toV (eAd E'))) (fun U => Rel E' σ U.heap ∧ KB E' U)) (K := fun _ _ _ _ _ => True) (Q := fun a st o t => QC E' σ rv σ1 a st o t ∧ ∃ L, FrameEnd st o t L (sn σ1 - sn σ) (ss σ1 - ss σ) ∧ ∀ q ∈ L, eA E' q.base) (bytes := c2) (maxL := nL2) (ret := ret2)
    (E := fun a st o t L k n => k = sn σ1 - sn σ ∧ n = ss σ1 - ss σ ∧ ∀ q ∈ L, eA E' q.base) hC (by rw [hR]; exact w3) (by rw [hR]; exact w4) ?_ ?_ (fun _ _ _ _ _ _ _ _ _ => trivial) ?_ ?_
  · intro m meth c A a X hp
    exact ⟨atoms_intro fun w hw => hws w hw _ _ X.warmed, hws _ List.mem_cons_self _ _ X.warmed, word_at X.warmed (Or.inl (by first | rfl | simp [Cond.onTables, Cond.keeps, Cond.steady])) (hts _ w2), hp.1, hp.2.1⟩
  · intro m meth c A a g mk X hp
    exact blind_Pc _ _ _ _ hp.2.2
  · intro a st o t ⟨hq, L, hF, hL⟩
    exact ⟨L, _, _, hF, rfl, rfl, hL⟩
  · intro m meth c A a g mk v t L k n X hp hq hF ⟨e1, e2, hL⟩
    subst e1; subst e2
    exact ⟨g, mk, t, L, rfl, rfl, hq.1, rfl, hL, rfl, rfl⟩
theorem r_callVW (B : FX X E cc nL ret own nm n0 s0 fr lo) {a : Nat} {hh : List (Nat × Nat × Nat × Nat)} {o : Option Nat} {v : TV} {st : List TV} (hst : st = As.reverse ++ vr o :: rest) (ho : o = some a) (hX : EX E E' σ σ1) (hC : CTW (xL X) E' y c2 nL2 ret2 hh fr2 lo2 (vr (some a) :: As) σ (some v) σ1) (hW : CWW X fr lo y c2 nL2 ret2 hh fr2 lo2 As.length) (hv : eSk E σ → RV σ a y y) (w1 : Cond.methodLink own idx y ∈ lw_all) (w2 : Cond.instanceMethod y ∈ lw_all)
    (hr : Nat.ble ((rest.map tcat).sum) 8 = true) (d : decode cc pc = .ok (.invokevirtual idx, 3)) (kk : J X E n0 s0 nL Q σ1 (pc + 3) L (v :: rest)) : J X E n0 s0 nL Q σ pc L st := by
  subst hst
  subst ho
  intro H locs ls hl hR hS h1 h2
  have hts := B.2.2.2.2.2.2.2.1
  have hK := z_KW B hC hW
  obtain ⟨c, C, T, N, hk, h99, hc, w3⟩ := hv hR.2.2.2.2.2
  obtain ⟨cellB, hcB, hoB, hclB⟩ := z_recv B hR hk h99 hc
  obtain ⟨f, rfl, hf1, hf2⟩ := id hX
  obtain ⟨v1, v2, v3, -, -⟩ := hW
  refine z_fin (len := 3) (As := vr (some a) :: As) (rv := some v) B hX hl hR hS h1 h2 (fun T hT S hp => ?_) kk
  obtain ⟨p1, p2, p3⟩ := hp hT
  refine vx_callVW S B.1 (hh := hh) (C := C) (bytes := c2) (maxL := nL2) (ret := ret2) B.2.2.2.2.1 (hts _ w1) (hts _ w2) (hts _ w3) (hts _ v1) ⟨v3.1, v3.2.1⟩ hK (b := eAd E a) (by rw [hT]; exact hcB) hoB hclB (g := F0 (xM X) pc ls _) rfl (hl.1.trans B.2.2.2.1.symm) (argsL := As.map (toV (eAd E))) (rest := rest.map (toV (eAd E))) (fun sig h => by have h5 := v3.2.2; rw [h] at h5; rw [List.length_map]; exact (Option.some.inj h5).symm) ?_ (rest_le hr) (by rw [B.2.1]; exact d) ?_
  · simp [toV, va_rf]
  · intro vm₁ hw
    exact ⟨p1, p2, p3 vm₁ hw⟩

theorem r_callSW (B : FX X E cc nL ret own nm n0 s0 fr lo) {hh : List (Nat × Nat × Nat × Nat)} {v : TV} {st : List TV} (hst : st = As.reverse ++ rest) (hX : EX E E' σ σ1) (hC : CTW (xL X) E' y c2 nL2 ret2 hh fr2 lo2 As σ (some v) σ1) (hW : CWW X fr lo y c2 nL2 ret2 hh fr2 lo2 As.length) (w1 : Cond.methodLink own idx y ∈ lw_all) (w2 : Cond.static y ∈ lw_all)
    (hr : Nat.ble ((rest.map tcat).sum) 8 = true) (d : decode cc pc = .ok (.invokestatic idx, 3)) (kk : J X E n0 s0 nL Q σ1 (pc + 3) L (v :: rest)) : J X E n0 s0 nL Q σ pc L st := by
  subst hst
  intro H locs ls hl hR hS h1 h2
  have hts := B.2.2.2.2.2.2.2.1
  have hK := z_KW B hC hW
  obtain ⟨f, rfl, hf1, hf2⟩ := id hX
  obtain ⟨v1, v2, v3, -, -⟩ := hW
  refine z_fin (len := 3) (As := As) (rv := some v) B hX hl hR hS h1 h2 (fun T hT S hp => ?_) kk
  obtain ⟨p1, p2, p3⟩ := hp hT
  refine vx_callSW S B.1 (hh := hh) (bytes := c2) (maxL := nL2) (ret := ret2) B.2.2.2.2.1 (hts _ w1) (hts _ w2) (hts _ v2) (hts _ v1) ⟨v3.1, v3.2.1⟩ hK (g := F0 (xM X) pc ls _) rfl (hl.1.trans B.2.2.2.1.symm) (argsL := As.map (toV (eAd E))) (rest := rest.map (toV (eAd E))) (fun sig h => by have h5 := v3.2.2; rw [h] at h5; rw [List.length_map]; exact (Option.some.inj h5).symm) ?_ (rest_le hr) (by rw [B.2.1]; exact d) ?_
  · simp
  · intro vm₁ hw
    exact ⟨p1, p2, p3 vm₁ hw⟩

theorem r_callF (B : FX X E cc nL ret own nm n0 s0 fr lo) {a : Nat} {o : Option Nat} {v : TV} {st : List TV} (hst : st = As.reverse ++ vr o :: rest) (ho : o = some a) (hX : EX E E' σ σ1) (hC : CT (xL X) E' y c2 nL2 ret2 fr2 lo2 (vr (some a) :: As) σ (some v) σ1) (hW : CW X fr lo y c2 nL2 ret2 fr2 lo2 As.length) {x : MethodName} {cnt : Nat} {C : String} {c : Nat} {T : u_T} {N : Nat} (hk : eSk E σ → (sk σ a).1 = c) (h99 : c < 99) (hc : CL[c]? = some (C, T, N)) (hF : va_Fw C x y (xS X)) (w1 : Cond.methodLink own idx x ∈ lw_all) (w2 : Cond.instanceMethod y ∈ lw_all) (w3 : Cond.selects C x y ∈ lw_all) (hxm : x.cls ≠ "java/lang/invoke/MethodHandle" ∧ x.cls ≠ "java/lang/invoke/VarHandle") (hxy : x.desc = y.desc)
    (hr : Nat.ble ((rest.map tcat).sum) 8 = true) (d : decode cc pc = .ok (.invokeinterface idx cnt, 5)) (kk : J X E n0 s0 nL Q σ1 (pc + 5) L (v :: rest)) : J X E n0 s0 nL Q σ pc L st := by
  subst hst
  subst ho
  intro H locs ls hl hR hS h1 h2
  have hts := B.2.2.2.2.2.2.2.1
  have hK := z_K (len := 5) B hC hW
  obtain ⟨cellB, hcB, hoB, hclB⟩ := z_recv B hR (hk hR.2.2.2.2.2) h99 hc
  obtain ⟨hfc, kB, hkB, -⟩ := (B.2.2.2.2.2.2.2.2.1.1.1.1 _ _ hc).2
  have hkB : (xS X).vm.classes[cellB.cls]? = some kB := by rw [Option.some.inj (hclB.symm.trans hfc)]; exact hkB
  obtain ⟨f, rfl, hf1, hf2⟩ := id hX
  obtain ⟨v1, v2, v3, -, -⟩ := hW
  refine z_fin (len := 5) (As := vr (some a) :: As) (rv := some v) B hX hl hR hS h1 h2 (fun T hT S hp => ?_) kk
  obtain ⟨p1, p2, p3⟩ := hp hT
  refine va_callIF S B.1 (C := C) (x := x) (y := y) (bytes := c2) (maxL := nL2) (ret := ret2) B.2.2.2.2.1 (hts _ w1) (va_any rfl hF.1) (va_any rfl hF.2.1) (hts _ w3) (hts _ w2) (va_any rfl hF.2.2.1) (va_any rfl hF.2.2.2.1) (va_any rfl hF.2.2.2.2) (hts _ v1) hxm hK (b := eAd E a) (by rw [hT]; exact hcB) hoB hclB hkB (g := F0 (xM X) pc ls _) rfl (hl.1.trans B.2.2.2.1.symm) (argsL := As.map (toV (eAd E))) (rest := rest.map (toV (eAd E))) (fun sig h => by have h5 := v3.2.2; rw [← hxy, h] at h5; rw [List.length_map]; exact (Option.some.inj h5).symm) ?_ (rest_le hr) (by rw [B.2.1]; exact d) ?_
  · simp [toV, va_rf]
  · intro vm₁ hw
    exact ⟨p1, p2, p3 vm₁ hw⟩

theorem r_callUv (B : FX X E cc nL ret own nm n0 s0 fr lo) {a : Nat} {owner : String} {x : MethodName} {o : Option Nat} {v : TV} {st : List TV} (hst : st = As.reverse ++ vr o :: rest) (ho : o = some a) (hX : EX E E' σ σ1) (hC : CT (xL X) E' y c2 nL2 ret2 fr2 lo2 (vr (some a) :: As) σ (some v) σ1) (hW : CW X fr lo y c2 nL2 ret2 fr2 lo2 As.length) (hv : eSk E σ → RV σ a x y) (w1 : Cond.methodLink own idx x ∈ lw_all) (w2 : Cond.instanceMethod y ∈ lw_all) (w4 : Cond.sameMethod x.cls owner x.name x.desc ∈ lw_all) (w5 : Cond.declares ⟨owner, x.name, x.desc⟩ ∈ lw_nest) (w6 : owner ≠ "java/lang/invoke/MethodHandle" ∧ owner ≠ "java/lang/invoke/VarHandle") (hxy : x.desc = y.desc)
    (hr : Nat.ble ((rest.map tcat).sum) 8 = true) (d : decode cc pc = .ok (.invokevirtual idx, 3)) (kk : J X E n0 s0 nL Q σ1 (pc + 3) L (v :: rest)) : J X E n0 s0 nL Q σ pc L st := by
  subst hst
  subst ho
  intro H locs ls hl hR hS h1 h2
  have hts := B.2.2.2.2.2.2.2.1
  have hK := z_K (len := 3) B hC hW
  obtain ⟨c, C, T, N, hk, h99, hc, w3⟩ := hv hR.2.2.2.2.2
  obtain ⟨cellB, hcB, hoB, hclB⟩ := z_recv B hR hk h99 hc
  obtain ⟨f, rfl, hf1, hf2⟩ := id hX
  obtain ⟨v1, v2, v3, -, -⟩ := hW
  refine z_fin (len := 3) (As := vr (some a) :: As) (rv := some v) B hX hl hR hS h1 h2 (fun T hT S hp => ?_) kk
  obtain ⟨p1, p2, p3⟩ := hp hT
  refine va_callVU S B.1 (C := C) (owner := owner) (x := x) (bytes := c2) (maxL := nL2) (ret := ret2) B.2.2.2.2.1 (hts _ w1) (hts _ w4) (va_Decl.abs (B.2.2.2.2.2.2.2.2.1.1.2.1 _ w5)) w6 (hts _ w3) (hts _ w2) (hts _ v1) hK (b := eAd E a) (by rw [hT]; exact hcB) hoB hclB (g := F0 (xM X) pc ls _) rfl (hl.1.trans B.2.2.2.1.symm) (argsL := As.map (toV (eAd E))) (rest := rest.map (toV (eAd E))) (fun sig h => by have h5 := v3.2.2; rw [← hxy, h] at h5; rw [List.length_map]; exact (Option.some.inj h5).symm) ?_ (rest_le hr) (by rw [B.2.1]; exact d) ?_
  · simp [toV, va_rf]
  · intro vm₁ hw
    exact ⟨p1, p2, p3 vm₁ hw⟩

theorem r_callU0 (B : FX X E cc nL ret own nm n0 s0 fr lo) {a : Nat} {owner : String} {x : MethodName} {o : Option Nat} {st : List TV} (hst : st = As.reverse ++ vr o :: rest) (ho : o = some a) (hX : EX E E' σ σ1) (hC : CT (xL X) E' y c2 nL2 ret2 fr2 lo2 (vr (some a) :: As) σ none σ1) (hW : CW X fr lo y c2 nL2 ret2 fr2 lo2 As.length) (hv : eSk E σ → RV σ a x y) (w1 : Cond.methodLink own idx x ∈ lw_all) (w2 : Cond.instanceMethod y ∈ lw_all) (w4 : Cond.sameMethod x.cls owner x.name x.desc ∈ lw_all) (w5 : Cond.declares ⟨owner, x.name, x.desc⟩ ∈ lw_nest) (w6 : owner ≠ "java/lang/invoke/MethodHandle" ∧ owner ≠ "java/lang/invoke/VarHandle") (hxy : x.desc = y.desc)
    (hr : Nat.ble ((rest.map tcat).sum) 8 = true) (d : decode cc pc = .ok (.invokevirtual idx, 3)) (kk : J X E n0 s0 nL Q σ1 (pc + 3) L rest) : J X E n0 s0 nL Q σ pc L st := by
  subst hst
  subst ho
  intro H locs ls hl hR hS h1 h2
  have hts := B.2.2.2.2.2.2.2.1
  have hK := z_K (len := 3) B hC hW
  obtain ⟨c, C, T, N, hk, h99, hc, w3⟩ := hv hR.2.2.2.2.2
  obtain ⟨cellB, hcB, hoB, hclB⟩ := z_recv B hR hk h99 hc
  obtain ⟨f, rfl, hf1, hf2⟩ := id hX
  obtain ⟨v1, v2, v3, -, -⟩ := hW
  refine z_fin (len := 3) (As := vr (some a) :: As) (rv := none) B hX hl hR hS h1 h2 (fun T hT S hp => ?_) kk
  obtain ⟨p1, p2, p3⟩ := hp hT
  refine va_callVU S B.1 (C := C) (owner := owner) (x := x) (bytes := c2) (maxL := nL2) (ret := ret2) B.2.2.2.2.1 (hts _ w1) (hts _ w4) (va_Decl.abs (B.2.2.2.2.2.2.2.2.1.1.2.1 _ w5)) w6 (hts _ w3) (hts _ w2) (hts _ v1) hK (b := eAd E a) (by rw [hT]; exact hcB) hoB hclB (g := F0 (xM X) pc ls _) rfl (hl.1.trans B.2.2.2.1.symm) (argsL := As.map (toV (eAd E))) (rest := rest.map (toV (eAd E))) (fun sig h => by have h5 := v3.2.2; rw [← hxy, h] at h5; rw [List.length_map]; exact (Option.some.inj h5).symm) ?_ (rest_le hr) (by rw [B.2.1]; exact d) ?_
  · simp [toV, va_rf]
  · intro vm₁ hw
    exact ⟨p1, p2, p3 vm₁ hw⟩

theorem r_callVW0 (B : FX X E cc nL ret own nm n0 s0 fr lo) {a : Nat} {hh : List (Nat × Nat × Nat × Nat)} {o : Option Nat} {st : List TV} (hst : st = As.reverse ++ vr o :: rest) (ho : o = some a) (hX : EX E E' σ σ1) (hC : CTW (xL X) E' y c2 nL2 ret2 hh fr2 lo2 (vr (some a) :: As) σ none σ1) (hW : CWW X fr lo y c2 nL2 ret2 hh fr2 lo2 As.length) (hv : eSk E σ → RV σ a y y) (w1 : Cond.methodLink own idx y ∈ lw_all) (w2 : Cond.instanceMethod y ∈ lw_all)
    (hr : Nat.ble ((rest.map tcat).sum) 8 = true) (d : decode cc pc = .ok (.invokevirtual idx, 3)) (kk : J X E n0 s0 nL Q σ1 (pc + 3) L rest) : J X E n0 s0 nL Q σ pc L st := by
  subst hst
  subst ho
  intro H locs ls hl hR hS h1 h2
  have hts := B.2.2.2.2.2.2.2.1
  have hK := z_KW B hC hW
  obtain ⟨c, C, T, N, hk, h99, hc, w3⟩ := hv hR.2.2.2.2.2
  obtain ⟨cellB, hcB, hoB, hclB⟩ := z_recv B hR hk h99 hc
  obtain ⟨f, rfl, hf1, hf2⟩ := id hX
  obtain ⟨v1, v2, v3, -, -⟩ := hW
  refine z_fin (len := 3) (As := vr (some a) :: As) (rv := none) B hX hl hR hS h1 h2 (fun T hT S hp => ?_) kk
  obtain ⟨p1, p2, p3⟩ := hp hT
  refine vx_callVW S B.1 (hh := hh) (C := C) (bytes := c2) (maxL := nL2) (ret := ret2) B.2.2.2.2.1 (hts _ w1) (hts _ w2) (hts _ w3) (hts _ v1) ⟨v3.1, v3.2.1⟩ hK (b := eAd E a) (by rw [hT]; exact hcB) hoB hclB (g := F0 (xM X) pc ls _) rfl (hl.1.trans B.2.2.2.1.symm) (argsL := As.map (toV (eAd E))) (rest := rest.map (toV (eAd E))) (fun sig h => by have h5 := v3.2.2; rw [h] at h5; rw [List.length_map]; exact (Option.some.inj h5).symm) ?_ (rest_le hr) (by rw [B.2.1]; exact d) ?_
  · simp [toV, va_rf]
  · intro vm₁ hw
    exact ⟨p1, p2, p3 vm₁ hw⟩

def isRd (σ : St) (a : Nat) : Bool := isK σ a 6 || isK σ a 17
theorem isRd_e {σ : St} {a : Nat} (h : isRd σ a = true) : (sk σ a).1 = 6 ∨ (sk σ a).1 = 17 := by
  unfold isRd at h
  rcases Bool.or_eq_true_iff.mp h with e | e
  · exact Or.inl (isK_e e)
  · exact Or.inr (isK_e e)
def isTs (σ : St) (a : Nat) : Bool := isK σ a 12 || (isK σ a 13 || isK σ a 14)
theorem isTs_e {σ : St} {a : Nat} (h : isTs σ a = true) : (sk σ a).1 = 12 ∨ (sk σ a).1 = 13 ∨ (sk σ a).1 = 14 := by
  unfold isTs at h
  rcases Bool.or_eq_true_iff.mp h with e | e
  · exact Or.inl (isK_e e)
  · rcases Bool.or_eq_true_iff.mp e with e | e
    · exact Or.inr (Or.inl (isK_e e))
    · exact Or.inr (Or.inr (isK_e e))
theorem castT {σ : St} {a : Nat} (h : isTs σ a = true) : ∃ (c : Nat) (C : String) (T : u_T) (N : Nat), (sk σ a).1 = c ∧ c < 99 ∧ CL[c]? = some (C, T, N) ∧ Cond.castable C "RoseThrow$Test" ∈ lw_nest := by
  rcases isTs_e h with e | e | e
  · exact ⟨12, _, _, _, e, by decide, rfl, lw_n q2262 rfl⟩
  · exact ⟨13, _, _, _, e, by decide, rfl, lw_n q2263 rfl⟩
  · exact ⟨14, _, _, _, e, by decide, rfl, lw_n q2264 rfl⟩
/-- a reader's fields, of either kind of reader -/
theorem gRd (B : FX X E cc nL ret own nm n0 s0 fr lo) {a k : Nat} {ref : String} {o : Option Nat} (t : TV) (ho : o = some a) (hk : eSk E σ → (sk σ a).1 = 6 ∨ (sk σ a).1 = 17) (hkN : Nat.blt k 8 = true) (w1 : Cond.fieldLink own idx ref (TX7 k).2.1 (TX7 k).2.2.1 ∈ lw_all) (w2 : Cond.fieldLink own idx ref (TX20 k).2.1 (TX20 k).2.2.1 ∈ lw_all) (hs1 : (TX7 k).1 = ref) (hs2 : (TX20 k).1 = ref) (hv1 : slv (tyX7 k) (si σ a k) (sl σ a k) ((sr σ a k).map (eAd E)) = toV (eAd E) t) (hv2 : slv (tyX20 k) (si σ a k) (sl σ a k) ((sr σ a k).map (eAd E)) = toV (eAd E) t) (d : decode cc pc = .ok (.getfield idx, 3)) (kk : J X E n0 s0 nL Q σ (pc + 3) L (t :: rest)) : J X E n0 s0 nL Q σ pc L (vr o :: rest) := by
  intro H locs ls hl hR hS h1 h2
  rcases hk hR.2.2.2.2.2 with e | e
  · exact g6 B t ho (fun _ => e) hkN w1 hs1 (fun _ => hv1) d kk H locs ls hl hR hS h1 h2
  · exact g17 B t ho (fun _ => e) hkN w2 hs2 (fun _ => hv2) d kk H locs ls hl hR hS h1 h2
theorem pIRd (B : FX X E cc nL ret own nm n0 s0 fr lo) {a k : Nat} {ref : String} {o : Option Nat} {v : Int32} (e1 : σ1 = setI σ a k v) (ho : o = some a) (hk : eSk E σ → (sk σ a).1 = 6 ∨ (sk σ a).1 = 17) (hkN : Nat.blt k 8 = true) (w1 : Cond.fieldLink own idx ref (TX7 k).2.1 (TX7 k).2.2.1 ∈ lw_all) (w2 : Cond.fieldLink own idx ref (TX20 k).2.1 (TX20 k).2.2.1 ∈ lw_all) (hs1 : (TX7 k).1 = ref) (hs2 : (TX20 k).1 = ref) (f1 : (TX7 k).2.2.2 = false) (f2 : (TX20 k).2.2.2 = false) (g1 : ∀ i l r, slv (tyX7 k) i l r = .int i) (g2 : ∀ i l r, slv (tyX20 k) i l r = .int i) (t1 : fits (tyX7 k) (.int v) = true) (t2 : fits (tyX20 k) (.int v) = true) (d : decode cc pc = .ok (.putfield idx, 3)) (kk : J X E n0 s0 nL Q σ1 (pc + 3) L rest) : J X E n0 s0 nL Q σ pc L (vi v :: vr o :: rest) := by
  intro H locs ls hl hR hS h1 h2
  rcases hk hR.2.2.2.2.2 with e | e
  · exact pI6 B e1 ho (fun _ => e) hkN w1 hs1 f1 g1 t1 d kk H locs ls hl hR hS h1 h2
  · exact pI17 B e1 ho (fun _ => e) hkN w2 hs2 f2 g2 t2 d kk H locs ls hl hR hS h1 h2
theorem pIRdF (B : FX X E cc nL ret own nm n0 s0 fr lo) {a k : Nat} {ref : String} {o : Option Nat} {v : Int32} (e1 : σ1 = setI σ a k v) (ho : o = some a) (hk : eSk E σ → (sk σ a).1 = 6 ∨ (sk σ a).1 = 17) (hkN : Nat.blt k 8 = true) (w1 : Cond.fieldLink own idx ref (TX7 k).2.1 (TX7 k).2.2.1 ∈ lw_all) (w2 : Cond.fieldLink own idx ref (TX20 k).2.1 (TX20 k).2.2.1 ∈ lw_all) (hs1 : (TX7 k).1 = ref) (hs2 : (TX20 k).1 = ref) (f1 : (TX7 k).2.2.2 = true) (f2 : (TX20 k).2.2.2 = true) (hin : nm = "<init>") (hd1 : (TX7 k).1 = own) (hd2 : (TX20 k).1 = own) (g1 : ∀ i l r, slv (tyX7 k) i l r = .int i) (g2 : ∀ i l r, slv (tyX20 k) i l r = .int i) (t1 : fits (tyX7 k) (.int v) = true) (t2 : fits (tyX20 k) (.int v) = true) (d : decode cc pc = .ok (.putfield idx, 3)) (kk : J X E n0 s0 nL Q σ1 (pc + 3) L rest) : J X E n0 s0 nL Q σ pc L (vi v :: vr o :: rest) := by
  intro H locs ls hl hR hS h1 h2
  rcases hk hR.2.2.2.2.2 with e | e
  · exact pI6F B e1 ho (fun _ => e) hkN w1 hs1 f1 hin hd1 g1 t1 d kk H locs ls hl hR hS h1 h2
  · exact pI17F B e1 ho (fun _ => e) hkN w2 hs2 f2 hin hd2 g2 t2 d kk H locs ls hl hR hS h1 h2
theorem pRRdF (B : FX X E cc nL ret own nm n0 s0 fr lo) {a k : Nat} {ref : String} {o v : Option Nat} (e1 : σ1 = setR σ a k v) (ho : o = some a) (hk : eSk E σ → (sk σ a).1 = 6 ∨ (sk σ a).1 = 17) (hkN : Nat.blt k 8 = true) (w1 : Cond.fieldLink own idx ref (TX7 k).2.1 (TX7 k).2.2.1 ∈ lw_all) (w2 : Cond.fieldLink own idx ref (TX20 k).2.1 (TX20 k).2.2.1 ∈ lw_all) (hs1 : (TX7 k).1 = ref) (hs2 : (TX20 k).1 = ref) (f1 : (TX7 k).2.2.2 = true) (f2 : (TX20 k).2.2.2 = true) (hin : nm = "<init>") (hd1 : (TX7 k).1 = own) (hd2 : (TX20 k).1 = own) (t1 : (∃ n, tyX7 k = .object n) ∨ ∃ t, tyX7 k = .array t) (t2 : (∃ n, tyX20 k = .object n) ∨ ∃ t, tyX20 k = .array t) (hsk : eSk E σ → eSk E σ1) (d : decode cc pc = .ok (.putfield idx, 3)) (kk : J X E n0 s0 nL Q σ1 (pc + 3) L rest) : J X E n0 s0 nL Q σ pc L (vr v :: vr o :: rest) := by
  intro H locs ls hl hR hS h1 h2
  rcases hk hR.2.2.2.2.2 with e | e
  · exact pR6F B e1 ho (fun _ => e) hkN w1 hs1 f1 hin hd1 t1 hsk d kk H locs ls hl hR hS h1 h2
  · exact pR17F B e1 ho (fun _ => e) hkN w2 hs2 f2 hin hd2 t2 hsk d kk H locs ls hl hR hS h1 h2
def isTh (σ : St) (a : Nat) : Bool := isK σ a 3 || isK σ a 7
theorem isTh_e {σ : St} {a : Nat} (h : isTh σ a = true) : (sk σ a).1 = 3 ∨ (sk σ a).1 = 7 := by
  unfold isTh at h
  rcases Bool.or_eq_true_iff.mp h with e | e
  · exact Or.inl (isK_e e)
  · exact Or.inr (isK_e e)
theorem pRTh (B : FX X E cc nL ret own nm n0 s0 fr lo) {a k : Nat} {ref : String} {o v : Option Nat} (e1 : σ1 = setR σ a k v) (ho : o = some a) (hk : eSk E σ → (sk σ a).1 = 3 ∨ (sk σ a).1 = 7) (hkN : Nat.blt k 6 = true) (w1 : Cond.fieldLink own idx ref (TX3 k).2.1 (TX3 k).2.2.1 ∈ lw_all) (w2 : Cond.fieldLink own idx ref (TX8 k).2.1 (TX8 k).2.2.1 ∈ lw_all) (hs1 : (TX3 k).1 = ref) (hs2 : (TX8 k).1 = ref) (f1 : (TX3 k).2.2.2 = false) (f2 : (TX8 k).2.2.2 = false) (t1 : (∃ n, tyX3 k = .object n) ∨ ∃ t, tyX3 k = .array t) (t2 : (∃ n, tyX8 k = .object n) ∨ ∃ t, tyX8 k = .array t) (hsk : eSk E σ → eSk E σ1) (d : decode cc pc = .ok (.putfield idx, 3)) (kk : J X E n0 s0 nL Q σ1 (pc + 3) L rest) : J X E n0 s0 nL Q σ pc L (vr v :: vr o :: rest) := by
  intro H locs ls hl hR hS h1 h2
  rcases hk hR.2.2.2.2.2 with e | e
  · exact pR3 B e1 ho (fun _ => e) hkN w1 hs1 f1 t1 hsk d kk H locs ls hl hR hS h1 h2
  · exact pR7 B e1 ho (fun _ => e) (blt_t.mpr (Nat.lt_trans (blt_t.mp hkN) (by decide))) w2 hs2 f2 t2 hsk d kk H locs ls hl hR hS h1 h2
end MM
