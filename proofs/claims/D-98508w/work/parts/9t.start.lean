set_option maxRecDepth 100000
/-! ===== the start: both constructors ===== -/
def e0 (mx ms : Nat) : St := (fun _ => (99, 0), fun _ _ => 0, fun _ _ => 0, fun _ _ => none, 0, 0, mx, ms)
def c0S : St := newO (e0 31 5000) (0, 0) 28
def m0S : St := newO (e0 29 30000) (5, 0) 67
noncomputable def c1S : St := match F_X0_init c0S 0 with
  | some x => x.2
  | none => c0S
noncomputable def m1S : St := match F_X5_init m0S 0 with
  | some x => x.2
  | none => m0S
theorem c1_e : F_X0_init c0S 0 = some ((), c1S) := by
  have h : (F_X0_init c0S 0).isSome = true := by decide +kernel
  unfold c1S
  cases e : F_X0_init c0S 0 with
  | none => rw [e] at h; cases h
  | some x => rfl
theorem m1_e : F_X5_init m0S 0 = some ((), m1S) := by
  have h : (F_X5_init m0S 0).isSome = true := by decide +kernel
  unfold m1S
  cases e : F_X5_init m0S 0 with
  | none => rw [e] at h; cases h
  | some x => rfl
theorem c1_n : sn c1S = 31 ∧ ss c1S ≤ 5000 ∧ sn m1S = 29 ∧ ss m1S ≤ 30000 ∧ 28 ≤ ss c1S ∧ 67 ≤ ss m1S := by decide +kernel
theorem c1_sk : SkC c1S := by
  unfold SkC
  decide +kernel
theorem m1_sk : SkM m1S := by
  unfold SkM
  decide +kernel
/-- the component's start, with room for the whole script -/
def sOf (c : St) : St := (fun a => if a < 31 then sk c a else (99, 0), si c, sl c, sr c, 31, ss c, 100000, 5050000)
def rgOf (c : St) : WR := fun r k => (si c r k.toNat).toInt
noncomputable def wS : WR := rgOf c1S
theorem wS_i {r : Nat} {k : Int} : iI (wS r k) = si c1S r k.toNat := iI_of _
theorem ck_0 : ∀ k : Nat, k < 27 → (k = 0 ∨ (11 ≤ k ∧ k ≤ 15) ∨ k = 26) → si m1S 0 (mK 0 k) = si c1S 0 k := by decide +kernel
theorem ck_1 : ∀ k : Nat, k < 7 → si m1S 1 k = si c1S 1 k := by decide +kernel
theorem ck_2 : ∀ k : Nat, k < 11 → 8 ≤ k → si m1S 2 (mK 2 k) = si c1S 2 k := by decide +kernel
theorem ck_3 : ∀ k : Nat, k < 6 → si m1S 2 (mK 3 k) = si c1S 3 k ∧ si m1S 2 (mK 4 k) = si c1S 4 k ∧ si m1S 2 (mK 5 k) = si c1S 5 k ∧ si m1S 2 (mK 6 k) = si c1S 6 k ∧ si m1S 2 (mK 7 k) = si c1S 7 k ∧ si m1S 28 (mK 29 k) = si c1S 29 k ∧ si m1S 28 (mK 30 k) = si c1S 30 k := by decide +kernel
theorem ck_8 : ∀ k : Nat, k < 9 → si m1S 2 (mK 8 k) = si c1S 8 k := by decide +kernel
theorem ck_9 : ∀ k : Nat, k < 8 → si m1S 2 (mK 9 k) = si c1S 9 k := by decide +kernel
theorem ck_13 : ∀ k : Nat, k < 96 → si m1S 5 k = si c1S 13 k ∧ si c1S 13 k = 0 := by decide +kernel
theorem ck_14 : ∀ k : Nat, k < 16 → si m1S 6 k = si c1S 14 k ∧ si c1S 14 k = 0 := by decide +kernel
theorem ck_19 : ∀ k : Nat, k < 400 → si m1S 10 k = 0 ∧ si c1S 19 k = 0 := by decide +kernel
theorem ck_w : (si c1S 2 8 = 0 ∧ si c1S 2 9 = 0 ∧ si c1S 2 10 = -1) ∧ (si c1S 0 11 = 0 ∧ si c1S 0 15 = 0 ∧ si c1S 0 26 = 0) ∧ (si c1S 8 0 = 3 ∧ si c1S 8 1 = 0 ∧ si c1S 8 2 = 3 ∧ si c1S 8 3 = 3 ∧ si c1S 8 4 = 2 ∧ si c1S 8 5 = 0 ∧ si c1S 8 6 = -1 ∧ si c1S 8 7 = 9 ∧ si c1S 8 8 = 0) := by decide +kernel
theorem ck_c : ∀ k : Nat, k < 6 → si c1S 3 k = 0 ∧ si c1S 4 k = 0 ∧ si c1S 5 k = 0 ∧ si c1S 6 k = 0 ∧ si c1S 7 k = 0 := by decide +kernel
theorem ck_f : ∀ k : Nat, k < 8 → si c1S 9 k = 0 := by decide +kernel
theorem ck_m : si m1S 2 2 = 0 ∧ si m1S 0 21 = 0 ∧ si m1S 4 0 = 0 ∧ si m1S 4 1 = 0 ∧ si m1S 0 66 = 0 := by decide +kernel
theorem ck_wd : (∀ i, i < 14 → sl m1S 16 i = lI (hsL (strB (31 + i)))) ∧ (∀ i, i < 5 → sl m1S 17 i = lI (hsL (strB i))) ∧ ∀ i, i < 4 → sl m1S 18 i = lI (hsL (strB (27 + i))) := by decide +kernel
theorem ck_l : (sk c1S 10).1 = 18 ∧ sr c1S 10 1 = some 11 ∧ sk c1S 11 = (104, 2) ∧ si c1S 10 2 = 0 ∧ (∀ i, i < 2 → sr c1S 11 i = none) ∧ (∀ k, k < 25 → sr c1S 26 k = none) ∧ ∀ j, j < 2 → sr c1S 12 j = none := by decide +kernel
theorem i0_0 : (0 : Int32).toInt = 0 := by decide
theorem wS_0 {r : Nat} {k : Int} (h : si c1S r k.toNat = 0) : wS r k = 0 := by
  show (si c1S r k.toNat).toInt = 0
  rw [h]
  rfl
theorem iv_start : Iv wS [] (fun _ => none) := by
  obtain ⟨⟨a1, a2, a3⟩, ⟨a4, a5, a6⟩, b0, b1, b2, b3, b4, b5, b6, b7, b8⟩ := ck_w
  have e8 : wS 2 8 = 0 := wS_0 a1
  have t : ∀ {r : Nat} {k : Int} {v : Int32} {z : Int}, si c1S r k.toNat = v → v.toInt = z → wS r k = z := fun h h2 => by
    show (si c1S _ _).toInt = _
    rw [h, h2]
  refine ⟨⟨by omega, by rw [wS_0 (r := 2) (k := 9) a2]; omega, by rw [t (r := 2) (k := 10) a3 (z := -1) rfl]; show (-1 : Int) ≤ -1 ∧ (-1 : Int) < ((0 : Nat) : Int); omega, by show 0 ≤ 6; omega, fun k k0 k6 => ?_, ?_, fun k k0 k8 => ?_⟩, ⟨by rw [wS_0 (r := 0) (k := 11) a4]; omega, by rw [wS_0 (r := 0) (k := 15) a5]; omega, by rw [wS_0 (r := 0) (k := 26) a6]; omega⟩, fun k h0 h1 => ?_, ⟨fun k h0 h1 => ?_, fun k h0 h1 => ?_⟩, fun i j i0 i1 j0 j1 z => by omega, fun n h0 h1 => ?_, fun j hj q e => by cases e⟩
  · obtain ⟨c1, c2, c3, c4, c5⟩ := ck_c k.toNat (by omega)
    rw [wS_0 c1, wS_0 c2, wS_0 c3, wS_0 c4, wS_0 c5]
    omega
  · rw [t (r := 8) (k := 0) b0 (z := 3) rfl, t (r := 8) (k := 1) b1 (z := 0) rfl, t (r := 8) (k := 2) b2 (z := 3) rfl, t (r := 8) (k := 3) b3 (z := 3) rfl, t (r := 8) (k := 4) b4 (z := 2) rfl, t (r := 8) (k := 5) b5 (z := 0) rfl, t (r := 8) (k := 6) b6 (z := -1) rfl, t (r := 8) (k := 7) b7 (z := 9) rfl, t (r := 8) (k := 8) b8 (z := 0) rfl]
    omega
  · rw [wS_0 (ck_f k.toNat (by omega))]
    omega
  · rw [wS_0 (ck_19 k.toNat (by omega)).2]
    omega
  · rw [wS_0 (ck_14 k.toNat (by omega)).2]
    omega
  · rw [wS_0 (ck_13 k.toNat (by omega)).2]
    omega
  · rw [wS_0 (r := 0) (k := 15) a5] at h1
    omega
theorem rm_start : RMi m1S wS := fun r k h0 hr => by
  rw [wS_i]
  have hm := relM_m hr
  have ek : ((k.toNat : Nat) : Int) = k := by omega
  unfold rgs at hm
  simp only [List.mem_cons, List.not_mem_nil, or_false] at hm
  rcases hm with rfl | rfl | rfl | rfl | rfl | rfl | rfl | rfl | rfl | rfl | rfl | rfl | rfl | rfl
  · have hr : k = 0 ∨ (11 ≤ k ∧ k ≤ 15) ∨ k = 26 := hr
    have := ck_0 k.toNat (by omega) (by omega)
    rw [ek] at this
    exact this
  · have hr : k < 7 := hr
    exact ck_1 k.toNat (by omega)
  · have hr : 8 ≤ k ∧ k ≤ 10 := hr
    have := ck_2 k.toNat (by omega) (by omega)
    rw [ek] at this
    exact this
  · have hr : k < 6 := hr
    have := (ck_3 k.toNat (by omega)).1
    rw [ek] at this
    exact this
  · have hr : k < 6 := hr
    have := (ck_3 k.toNat (by omega)).2.1
    rw [ek] at this
    exact this
  · have hr : k < 6 := hr
    have := (ck_3 k.toNat (by omega)).2.2.1
    rw [ek] at this
    exact this
  · have hr : k < 6 := hr
    have := (ck_3 k.toNat (by omega)).2.2.2.1
    rw [ek] at this
    exact this
  · have hr : k < 6 := hr
    have := (ck_3 k.toNat (by omega)).2.2.2.2.1
    rw [ek] at this
    exact this
  · have hr : k < 9 := hr
    have := ck_8 k.toNat (by omega)
    rw [ek] at this
    exact this
  · have hr : k < 8 := hr
    have := ck_9 k.toNat (by omega)
    rw [ek] at this
    exact this
  · have hr : k < 96 := hr
    exact (ck_13 k.toNat (by omega)).1
  · have hr : k < 16 := hr
    exact (ck_14 k.toNat (by omega)).1
  · have hr : k < 6 := hr
    have := (ck_3 k.toNat (by omega)).2.2.2.2.2.1
    rw [ek] at this
    exact this
  · have hr : k < 6 := hr
    have := (ck_3 k.toNat (by omega)).2.2.2.2.2.2
    rw [ek] at this
    exact this
theorem jr_gen {c m : St} (hS : SkC c) (l1 : (sk c 10).1 = 18) (l2 : sr c 10 1 = some 11) (l3 : sk c 11 = (104, 2)) (l4 : si c 10 2 = 0) (l5 : ∀ i, i < 2 → sr c 11 i = none) (l6 : ∀ k, k < 25 → sr c 26 k = none) (l7 : ∀ j, j < 2 → sr c 12 j = none) (m1 : si m 2 2 = 0) (m2 : si m 0 21 = 0) (m3 : si m 4 0 = 0) (m4 : si m 4 1 = 0) (m5 : si m 0 66 = 0) (hR : RMi m (rgOf c)) (hI : Iv (rgOf c) [] (fun _ => none)) (h26 : rgOf c 0 26 = 0) (hT : ∀ k : Nat, k < 400 → si m 10 k = 0 ∧ si c 19 k = 0) (hw : WrdE m) : JR (sOf c) m := by
  have hk : ∀ a, a < 31 → sk (sOf c) a = sk c a := fun a ha => if_pos ha
  have hlst : ∀ f, LstE (sOf c) 10 11 2 ([] : List (List DC)).length f := fun f => ⟨by rw [hk 10 (by omega)]; exact l1, l2, by rw [hk 11 (by omega)]; exact l3, by show 0 ≤ 2; omega, by omega, l4, fun i hi => absurd hi (by show ¬ i < 0; omega)⟩
  refine ⟨fun _ => False, rgOf c, [], none, 11, fun _ => none, ⟨⟨⟨fun a ha => (hk a ha).trans (hS.1 a ha), hS.2⟩, fun r k h0 hr => (iI_of _).symm, ⟨11, 2, fun _ => 0, hlst _, fun i x e => by rw [List.getElem?_nil] at e; cases e⟩, fun b hb => absurd hb id⟩, ⟨fun b hb => if_neg (by have hb : 31 ≤ b := hb; omega), Nat.le_refl _, fun b hb => absurd hb id, l6, fun A e => by cases e⟩, ?_, ⟨l2, id⟩, fun j hj => l7 j hj, fun j q hj e => (by cases e), fun q r e => (by cases e), fun j q hj e => by cases e⟩, ⟨⟨hR, m1, m2, fun i law e => by rw [List.getElem?_nil] at e; cases e⟩, fun j hj => ?_, fun k h0 h1 => ?_, Or.inr ⟨m5, h26⟩, hw⟩, hI⟩
  · intro b hb
    have e : some 11 = some b := l2.symm.trans hb
    cases e
    rw [hk 11 (by omega), l3]
    exact ⟨by omega, fun i _ hi => l5 i hi⟩
  · have : j = 0 ∨ j = 1 := by omega
    rcases this with rfl | rfl
    · exact m3
    · exact m4
  · obtain ⟨t1, t2⟩ := hT k.toNat (by omega)
    have e : rgOf c 19 k = 0 := by
      show (si c 19 k.toNat).toInt = 0
      rw [t2]
      rfl
    rw [t1, e]
    rfl
theorem jr_start : JR (sOf c1S) m1S := jr_gen c1_sk ck_l.1 ck_l.2.1 ck_l.2.2.1 ck_l.2.2.2.1 ck_l.2.2.2.2.1 ck_l.2.2.2.2.2.1 ck_l.2.2.2.2.2.2 ck_m.1 ck_m.2.1 ck_m.2.2.1 ck_m.2.2.2.1 ck_m.2.2.2.2 rm_start iv_start (wS_0 ck_w.2.1.2.2) ck_19 ck_wd
