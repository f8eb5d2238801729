set_option maxRecDepth 100000
/-! ===== the component: states are copied ===== -/
theorem e_J2_addAll {s : St} {l1 b1 c1 l2 b2 c2 n : Nat} {f1 f : Nat → Nat} (hL1 : LstE s l1 b1 c1 0 f1) (hT1 : Tl s l1 0) (hL2 : LstE s l2 b2 c2 n f) (hv : Vd s) (h12 : l1 ≠ l2 ∧ l1 ≠ b1 ∧ l1 ≠ b2 ∧ b1 ≠ b2) (hn : n ≤ 12) (hc2 : c2 ≤ 400) (hE : ∀ i, i < n → (sk s (f i)).1 < 19 ∧ f i < sn s) (hm1 : sn s + 2 ≤ smx s) (hm2 : ss s + 32 ≤ sms s) : ∃ r s' b' c', F_J2_addAll s l1 (some l2) = some (r, s') ∧ LstE s' l1 b' c' n f ∧ Tl s' l1 n ∧ OldX (two l1 b1) s s' ∧ (∀ y, y < sn s → sk s' y = sk s y) ∧ Tk s s' 2 32 ∧ Vd s' ∧ (b' = b1 ∨ sn s ≤ b') ∧ (∀ y, y ≠ 1 → sr s' l1 y = sr s l1 y) := by
  have hl1 : l1 < sn s := hv.lt (by rw [hL1.1]; decide)
  have hl2 : l2 < sn s := hv.lt (by rw [hL2.1]; decide)
  have hb1 : b1 < sn s := hv.lt (by rw [hL1.2.2.1]; show (104 : Nat) ≠ 99; decide)
  have hb2 : b2 < sn s := hv.lt (by rw [hL2.2.2.1]; show (104 : Nat) ≠ 99; decide)
  obtain ⟨p1, p2, p3, p4, p5, p6, p7⟩ := hL1
  obtain ⟨q1, q2, q3, q4, q5, q6, q7⟩ := hL2
  have hTb := hT1 b1 p2
  rw [p3] at hTb
  have hTc : (0 < c1 ∧ c1 ≤ 400) ∧ ∀ i, 0 ≤ i → i < c1 → sr s b1 i = none := hTb
  have eC := e_J12_copyOf (q := n) q3 hb2 (m := n) (by omega) (by omega) (by split <;> omega) (fun i hi y hy => by
    rw [q7 i hi] at hy
    cases hy
    exact hE i hi) (by omega) (by omega)
  have oc : Old s (cpO s b2 n n) := cpO_old hb2
  have cr : ∀ x y, sr (cpO s b2 n n) x y = if x = sn s then (if y < n then sr s b2 y else none) else sr s x y := fun x y => cpO_r hb2
  have k1l : (sk (cpO s b2 n n) l1).1 = 18 := by rw [(oc l1 hl1).1]; exact p1
  have kt : sk (cpO s b2 n n) (sn s) = (104, n) := by rw [cpO_k, if_pos rfl]
  have k1b : sk (cpO s b2 n n) b1 = (104, c1) := by rw [(oc b1 hb1).1]; exact p3
  have r1l : sr (cpO s b2 n n) l1 1 = some b1 := by rw [(oc l1 hl1).2.2.2]; exact p2
  have i1l : si (cpO s b2 n n) l1 2 = iI ((0 : Nat) : Int) := by rw [(oc l1 hl1).2.1]; exact p6
  have v1 : Vd (cpO s b2 n n) := cpO_vd hv
  -- the modification is counted
  obtain ⟨s2, hs2⟩ : ∃ s2, s2 = setI (cpO s b2 n n) l1 0 (si (cpO s b2 n n) l1 0 + 1) := ⟨_, rfl⟩
  have o2 : OldX (two l1 b1) s s2 := by
    rw [hs2]
    exact (oc.x).tr (Nat.le_succ _) (OldX.setI (Or.inl rfl))
  have k2 : ∀ y, sk s2 y = sk (cpO s b2 n n) y := fun y => by rw [hs2]; rfl
  have r2 : ∀ y, sr s2 y = sr (cpO s b2 n n) y := fun y => by rw [hs2]; rfl
  have n2 : sn s2 = sn s + 1 := by rw [hs2]; rfl
  have m2 : ss s2 = ss s + n ∧ smx s2 = smx s ∧ sms s2 = sms s := by rw [hs2]; exact ⟨rfl, rfl, rfl⟩
  have v2 : Vd s2 := by rw [hs2]; exact v1
  have i2l : si s2 l1 2 = iI 0 := by
    rw [hs2, si_set, if_pos rfl, if_neg (by decide)]
    exact i1l
  have rt : ∀ i, i < n → sr s2 (sn s) i = some (f i) := fun i hi => by
    rw [r2, cr, if_pos rfl, if_pos hi]
    exact q7 i hi
  have kf : ∀ i, i < n → (sk s2 (f i)).1 < 19 := fun i hi => by
    rw [k2, (oc _ (hE i hi).2).1]
    exact (hE i hi).1
  have k2l : (sk s2 l1).1 = 18 := by rw [k2]; exact k1l
  have k2t : sk s2 (sn s) = (104, n) := by rw [k2]; exact kt
  have k2b : sk s2 b1 = (104, c1) := by rw [k2]; exact k1b
  have r2l : sr s2 l1 1 = some b1 := by rw [r2]; exact r1l
  have r2b : ∀ i, i < c1 → sr s2 b1 i = none := fun i hi => by
    rw [r2, (oc b1 hb1).2.2.2]
    exact hTc.2 i (by omega) hi
  have r2y : ∀ y, sr s2 l1 y = sr s l1 y := fun y => by rw [r2, (oc l1 hl1).2.2.2]
  unfold F_J2_addAll F_J2_toArray
  rw [drf_s, isK_g q1, isK_g q1, isK_g q1, q2, q6, eC, bnd_s, bnd_s, isK_g k1l, isK_g k1l, ← hs2, nam_v, drf_s, isK_g (by rw [k2t]), k2t, r2l, i2l]
  show ∃ r s' b' c', (if nI n = 0 then _ else _) = _ ∧ _
  rw [nIi]
  by_cases hn0 : n = 0
  · refine ⟨iI 0, s2, b1, c1, ?_, ⟨k2l, r2l, k2b, by omega, by omega, by rw [i2l, hn0]; rfl, fun i hi => by omega⟩, fun b' hb' => ?_, o2, fun y hy => by rw [k2, (oc y hy).1], ⟨by omega, by omega, by omega, by omega, m2.2.1, m2.2.2⟩, v2, Or.inl rfl, fun y _ => r2y y⟩
    · rw [if_pos (by rw [hn0]; rfl)]
      rfl
    · rw [r2l] at hb'
      cases hb'
      rw [k2b]
      exact ⟨hTc.1, fun i _ hi => r2b i hi⟩
  · rw [if_neg (by rw [k_0, iI_eq (by omega) (by omega)]; omega), isK_g k2l, drf_s, isK_g (by rw [k2b]), isK_g k2l, k2b]
    show ∃ r s' b' c', (if iI (n : Int) ≤ nI c1 - iI 0 then _ else _) = _ ∧ _
    rw [nIi, iI_sub]
    by_cases hfit : n ≤ c1
    · have eA := e_J2_add_56 (n := n) k2l k2t k2b (by omega) (fun i hi y hy => by
        rw [rt i hi] at hy
        cases hy
        exact kf i hi)
      have eF := e_J2_filled (n := n) (f := f) k2l r2l k2b (by omega) h12.2.1 (by omega) (ct := n) (t := sn s) rt (fun i _ hi => r2b i hi)
      refine ⟨iI 1, _, b1, c1, ?_, eF.1, eF.2, ?_, fun y hy => by show sk s2 y = _; rw [k2, (oc y hy).1], ⟨by show sn s ≤ sn s2; omega, by show sn s2 ≤ _; omega, by show ss s ≤ ss s2; omega, by show ss s2 ≤ _; omega, m2.2.1, m2.2.2⟩, v2, Or.inl rfl, fun y hy => ?_⟩
      · rw [if_pos (by rw [iI_le (by omega) (by omega)]; omega)]
        exact eA
      · intro y hy hS
        refine (o2 y hy hS).tr ⟨rfl, ?_, rfl, ?_⟩
        · funext k
          rw [si_set, if_neg (fun z => hS (Or.inl z))]
          rfl
        · funext k
          show sr (cpyR s2 (sn s) 0 b1 0 n) y k = _
          rw [cR_r, if_neg (fun z => hS (Or.inr z))]
      · show sr (cpyR s2 (sn s) 0 b1 0 n) l1 y = _
        rw [cR_r, if_neg h12.2.1, r2y]
    · have hL2' : LstE s2 l1 b1 c1 0 f1 := ⟨k2l, r2l, k2b, by omega, by omega, i2l, fun i hi => by omega⟩
      obtain ⟨g, hge⟩ : ∃ g, g = c1 + if n - c1 < c1 / 2 then c1 / 2 else n - c1 := ⟨_, rfl⟩
      have hg20 : g ≤ 20 := by rw [hge]; split <;> omega
      have hng : n ≤ g := by rw [hge]; split <;> omega
      obtain ⟨eG, hg1, hg2⟩ := e_J2_grow (need := n) (g := g) hL2' (by omega) (by omega) h12.2.1 hTc.1 ⟨by omega, by omega⟩ hge (fun i hi y hy => by rw [r2b i hi] at hy; cases hy) (by rw [m2.2.1]; omega) (by rw [m2.1, m2.2.2]; omega)
      have hb2' : b1 < sn s2 := by omega
      have oc3 : Old s2 (cpO s2 b1 g c1) := cpO_old hb2'
      have rr : ∀ x y, sr (setR (cpO s2 b1 g c1) l1 1 (some (sn s2))) x y = if x = l1 then (if y = 1 then some (sn s2) else sr s2 l1 y) else if x = sn s2 then (if y < c1 then sr s2 b1 y else none) else sr s2 x y := fun x y => by
        rw [sR_r]
        by_cases hx : x = l1
        · rw [if_pos hx, if_pos hx]
          by_cases hy : y = 1
          · rw [if_pos hy, if_pos hy]
          · rw [if_neg hy, if_neg hy, cpO_r hb2', if_neg (by omega), hx]
        · rw [if_neg hx, if_neg hx, cpO_r hb2']
      have k3 : ∀ y, sk (setR (cpO s2 b1 g c1) l1 1 (some (sn s2))) y = if y = sn s2 then (104, g) else sk s2 y := fun y => by
        rw [sR_k, cpO_k]
      have k3l : (sk (setR (cpO s2 b1 g c1) l1 1 (some (sn s2))) l1).1 = 18 := by rw [k3, if_neg (by omega)]; exact k2l
      have k3t : sk (setR (cpO s2 b1 g c1) l1 1 (some (sn s2))) (sn s) = (104, n) := by rw [k3, if_neg (by omega)]; exact k2t
      have k3b : sk (setR (cpO s2 b1 g c1) l1 1 (some (sn s2))) (sn s2) = (104, g) := by rw [k3, if_pos rfl]
      have r3t : ∀ i, i < n → sr (setR (cpO s2 b1 g c1) l1 1 (some (sn s2))) (sn s) i = some (f i) := fun i hi => by
        rw [rr, if_neg (by omega), if_neg (by omega)]
        exact rt i hi
      have r3b : ∀ i, sr (setR (cpO s2 b1 g c1) l1 1 (some (sn s2))) (sn s2) i = none := fun i => by
        rw [rr, if_neg (by omega), if_pos rfl]
        split
        · rename_i h
          exact r2b i h
        · rfl
      have eA := e_J2_add_56 (n := n) k3l k3t k3b (by omega) (fun i hi y hy => by
        rw [r3t i hi] at hy
        cases hy
        rw [k3, if_neg (by have := (hE i hi).2; omega)]
        exact kf i hi)
      have eF := e_J2_filled (n := n) (f := f) k3l (by rw [rr, if_pos rfl, if_pos rfl]) k3b (by omega) (by omega) (by omega) (ct := n) (t := sn s) r3t (fun i _ hi => r3b i)
      refine ⟨iI 1, _, sn s2, g, ?_, eF.1, eF.2, ?_, fun y hy => ?_, ⟨by show sn s ≤ sn s2 + 1; omega, by show sn s2 + 1 ≤ _; omega, by show ss s ≤ ss s2 + g; omega, by show ss s2 + g ≤ _; omega, m2.2.1, m2.2.2⟩, Vd.new (kd := (104, g)) (n := g) v2, Or.inr (by omega), fun y hy => ?_⟩
      · rw [if_neg (by rw [iI_le (by omega) (by omega)]; omega), isK_g k2l, iI_add, Int.zero_add, eG, bnd_s]
        exact eA
      · intro y hy hS
        have hyl : y ≠ l1 := fun z => hS (Or.inl z)
        have q := (o2 y hy hS).tr (oc3 y (by omega))
        refine ⟨q.1, ?_, q.2.2.1, ?_⟩
        · funext k
          rw [si_set, if_neg hyl]
          exact congrFun q.2.1 k
        · funext k
          show sr (cpyR (setR (cpO s2 b1 g c1) l1 1 (some (sn s2))) (sn s) 0 (sn s2) 0 n) y k = _
          rw [cR_r, if_neg (by omega), rr, if_neg hyl, if_neg (by omega)]
          exact congrFun (o2 y hy hS).2.2.2 k
      · show sk (setR (cpO s2 b1 g c1) l1 1 (some (sn s2))) y = _
        rw [k3, if_neg (by omega), k2, (oc y hy).1]
      · show sr (cpyR (setR (cpO s2 b1 g c1) l1 1 (some (sn s2))) (sn s) 0 (sn s2) 0 n) l1 y = _
        rw [cR_r, if_neg (by omega), rr, if_pos rfl, if_neg hy, r2y]
def rl (j : Nat) : Nat := [6, 6, 6, 6, 6, 9, 8].getD j 0
/-- a state's frame: its rows A, its list l -/
def SkT (s : St) (a : Nat) (A : Nat → Nat) (l : Nat) : Prop := (sk s a).1 = 1 ∧ (∀ j, j < 7 → sr s a j = some (A j) ∧ sk s (A j) = (100, rl j)) ∧ sr s a 7 = some l
def RgT (s : St) (a : Nat) (A : Nat → Nat) (w : WR) : Prop := (∀ (j : Nat) (k : Int), j < 7 → 0 ≤ k → k < rl j → si s (A j) k.toNat = iI (w (3 + j) k)) ∧ ∀ k : Int, 8 ≤ k → k ≤ 10 → si s a k.toNat = iI (w 2 k)
def rowsS (s : St) (A1 A2 : Nat → Nat) : Nat → St
  | 0 => s
  | j + 1 => cpyI (rowsS s A1 A2 j) (A2 j) 0 (A1 j) 0 (rl j)
theorem rowsS_k {s : St} {A1 A2 : Nat → Nat} : ∀ n, sk (rowsS s A1 A2 n) = sk s ∧ sr (rowsS s A1 A2 n) = sr s ∧ sl (rowsS s A1 A2 n) = sl s ∧ sn (rowsS s A1 A2 n) = sn s ∧ ss (rowsS s A1 A2 n) = ss s ∧ smx (rowsS s A1 A2 n) = smx s ∧ sms (rowsS s A1 A2 n) = sms s
  | 0 => ⟨rfl, rfl, rfl, rfl, rfl, rfl, rfl⟩
  | n + 1 => rowsS_k (s := s) (A1 := A1) (A2 := A2) n
theorem rowsS_o {s : St} {A1 A2 : Nat → Nat} {x : Nat} : ∀ n, (∀ j, j < n → x ≠ A1 j) → si (rowsS s A1 A2 n) x = si s x
  | 0, _ => rfl
  | n + 1, h => by
    show si (cpyI (rowsS s A1 A2 n) (A2 n) 0 (A1 n) 0 (rl n)) x = _
    rw [si_cpy, if_neg (h n (by omega))]
    exact rowsS_o n fun j hj => h j (by omega)
theorem rowsS_i {s : St} {A1 A2 : Nat → Nat} (h12 : ∀ i j, i < 7 → j < 7 → A1 i ≠ A2 j) (h1 : ∀ i j, i < 7 → j < 7 → A1 i = A1 j → i = j) : ∀ n, n ≤ 7 → ∀ j, j < n → ∀ k, k < rl j → si (rowsS s A1 A2 n) (A1 j) k = si s (A2 j) k
  | 0, _, j, hj, _, _ => by omega
  | n + 1, hn, j, hj, k, hk => by
    show si (cpyI (rowsS s A1 A2 n) (A2 n) 0 (A1 n) 0 (rl n)) (A1 j) k = _
    rw [si_cpy]
    by_cases e : j = n
    · rw [e, if_pos rfl]
      unfold va_cpy
      rw [if_pos (by rw [e] at hk; omega), rowsS_o n (fun i hi z => h12 i n (by omega) (by omega) z.symm), show 0 + (k - 0) = k by omega]
    · rw [if_neg (fun z => e (h1 j n (by omega) (by omega) z))]
      exact rowsS_i h12 h1 n (by omega) j (by omega) k hk
theorem rl_r {j : Nat} : rl j ≤ 9 := by
  unfold rl
  match j with
  | 0 => decide
  | 1 => decide
  | 2 => decide
  | 3 => decide
  | 4 => decide
  | 5 => decide
  | 6 => decide
  | j + 7 => exact Nat.zero_le _
theorem e_X1_rows {s : St} {a b n : Nat} (h1 : sk s a = (100, n)) (h2 : sk s b = (100, n)) (hn : n ≤ 1000) : F_X1_rows s (some a) (some b) = some ((), cpyI s b 0 a 0 n) := by
  unfold F_X1_rows
  rw [drf_s, isK_g (by rw [h1]), drf_s, isK_g (by rw [h2]), drf_s, isK_g (by rw [h1]), h1, h2]
  show gd (okC 0 0 (nI n) n n) _ = _
  rw [nIi, k_0, gd_ok (okC_t (by omega) (by omega) (by omega) (by omega) (by omega)), nam_v, iI_nat (by omega), iI_nat (by omega), Int.toNat_natCast]
  rfl
def Tset (a : Nat) (A : Nat → Nat) (l b x : Nat) : Prop := x = a ∨ (∃ j, j < 7 ∧ x = A j) ∨ x = l ∨ x = b
theorem e_X1_takes {s : St} {a1 a2 l1 l2 b1 b2 c1 c2 n1 n : Nat} {A1 A2 f1 f : Nat → Nat} {w : WR} (S1 : SkT s a1 A1 l1) (S2 : SkT s a2 A2 l2) (R2 : RgT s a2 A2 w) (L1 : LstE s l1 b1 c1 n1 f1) (T1 : Tl s l1 n1) (L2 : LstE s l2 b2 c2 n f) (T2 : Tl s l2 n) (hv : Vd s) (hx : ∀ x, Tset a1 A1 l1 b1 x → ¬ Tset a2 A2 l2 b2 x) (hA : ∀ i j, i < 7 → j < 7 → A1 i = A1 j → i = j) (hn : n ≤ 12) (hn1 : n1 ≤ 12) (hE : ∀ i, i < n → (sk s (f i)).1 = 16 ∧ f i < sn s) (hm1 : sn s + 2 ≤ smx s) (hm2 : ss s + 32 ≤ sms s) : ∃ s' b' c', F_X1_takes s a1 (some a2) = some ((), s') ∧ SkT s' a1 A1 l1 ∧ RgT s' a1 A1 w ∧ LstE s' l1 b' c' n f ∧ Tl s' l1 n ∧ OldX (Tset a1 A1 l1 b1) s s' ∧ (∀ y, y < sn s → sk s' y = sk s y) ∧ (∀ y, y < sn s → y ≠ l1 → y ≠ b1 → sr s' y = sr s y) ∧ Tk s s' 2 32 ∧ Vd s' ∧ (b' = b1 ∨ sn s ≤ b') := by
  have x12 : ∀ i j, i < 7 → j < 7 → A1 i ≠ A2 j := fun i j hi hj z => hx (A1 i) (Or.inr (Or.inl ⟨i, hi, rfl⟩)) (Or.inr (Or.inl ⟨j, hj, z⟩))
  have kA1 : ∀ j, j < 7 → (sk s (A1 j)).1 = 100 := fun j hj => by rw [(S1.2.1 j hj).2]
  have kA2 : ∀ j, j < 7 → (sk s (A2 j)).1 = 100 := fun j hj => by rw [(S2.2.1 j hj).2]
  have kb1 : (sk s b1).1 = 104 := by rw [L1.2.2.1]
  have kb2 : (sk s b2).1 = 104 := by rw [L2.2.2.1]
  have ne : ∀ {x y k m : Nat}, (sk s x).1 = k → (sk s y).1 = m → k ≠ m → x ≠ y := fun h1 h2 h3 z => h3 (by rw [← h1, ← h2, z])
  have lA : ∀ j, j < 7 → A1 j < sn s := fun j hj => hv.lt (by rw [kA1 j hj]; decide)
  have la1 : a1 < sn s := hv.lt (by rw [S1.1]; decide)
  have la2 : a2 < sn s := hv.lt (by rw [S2.1]; decide)
  have ll1 : l1 < sn s := hv.lt (by rw [L1.1]; decide)
  have ll2 : l2 < sn s := hv.lt (by rw [L2.1]; decide)
  have lb1 : b1 < sn s := hv.lt (by rw [kb1]; decide)
  have lb2 : b2 < sn s := hv.lt (by rw [kb2]; decide)
  have a12 : a1 ≠ a2 := fun z => hx a1 (Or.inl rfl) (Or.inl z)
  have l12 : l1 ≠ l2 := fun z => hx l1 (Or.inr (Or.inr (Or.inl rfl))) (Or.inr (Or.inr (Or.inl z)))
  have b12 : b1 ≠ b2 := fun z => hx b1 (Or.inr (Or.inr (Or.inr rfl))) (Or.inr (Or.inr (Or.inr z)))
  have lb12 : l1 ≠ b1 := ne L1.1 kb1 (by decide)
  have lb22 : l1 ≠ b2 := ne L1.1 kb2 (by decide)
  -- rows
  have k : ∀ i, sk (rowsS s A1 A2 i) = sk s := fun i => (rowsS_k i).1
  have r : ∀ i, sr (rowsS s A1 A2 i) = sr s := fun i => (rowsS_k i).2.1
  have eR : ∀ j, j < 7 → F_X1_rows (rowsS s A1 A2 j) (sr (rowsS s A1 A2 j) a1 j) (sr (rowsS s A1 A2 j) a2 j) = some ((), rowsS s A1 A2 (j + 1)) := fun j hj => by
    rw [r, (S1.2.1 j hj).1, (S2.2.1 j hj).1]
    exact e_X1_rows (by rw [k]; exact (S1.2.1 j hj).2) (by rw [k]; exact (S2.2.1 j hj).2) (by have := rl_r (j := j); omega)
  have g1 : ∀ {α : Type} {x : Option α} i, gd (isK (rowsS s A1 A2 i) a1 1) x = x := fun i => isK_g (by rw [k]; exact S1.1)
  have g2 : ∀ {α : Type} {x : Option α} i, gd (isK (rowsS s A1 A2 i) a2 1) x = x := fun i => isK_g (by rw [k]; exact S2.1)
  have e0 : F_X1_rows s (sr s a1 0) (sr s a2 0) = some ((), rowsS s A1 A2 1) := eR 0 (by decide)
  obtain ⟨s7, h7⟩ : ∃ s7, s7 = rowsS s A1 A2 7 := ⟨_, rfl⟩
  have k7 : sk s7 = sk s := by rw [h7]; exact k 7
  have r7 : sr s7 = sr s := by rw [h7]; exact r 7
  have q7 : sl s7 = sl s ∧ sn s7 = sn s ∧ ss s7 = ss s ∧ smx s7 = smx s ∧ sms s7 = sms s := by rw [h7]; exact (rowsS_k 7).2.2
  have i7 : ∀ x, (∀ j, j < 7 → x ≠ A1 j) → si s7 x = si s x := fun x h => by rw [h7]; exact rowsS_o 7 h
  have v7 : Vd s7 := by unfold Vd; rw [k7, q7.2.1]; exact hv
  have L17 : LstE s7 l1 b1 c1 n1 f1 := by
    unfold LstE
    rw [k7, r7, i7 l1 (fun j hj => ne L1.1 (kA1 j hj) (by decide))]
    exact L1
  have L27 : LstE s7 l2 b2 c2 n f := by
    unfold LstE
    rw [k7, r7, i7 l2 (fun j hj => ne L2.1 (kA1 j hj) (by decide))]
    exact L2
  have T17 : Tl s7 l1 n1 := by unfold Tl; rw [k7, r7]; exact T1
  obtain ⟨s8, e8, L8, T8, o8, ⟨z1, z2, z3, z4, z5, z6⟩, rl8, i8⟩ := e_J2_clear L17 T17 lb12 hn1
  have v8 : Vd s8 := by unfold Vd; rw [z1, z3]; exact v7
  have L28 : LstE s8 l2 b2 c2 n f := by
    obtain ⟨p1, p2, p3, p4, p5, p6, p7⟩ := L27
    refine ⟨by rw [z1]; exact p1, ?_, by rw [z1]; exact p3, p4, p5, by rw [i8 l2 l12.symm]; exact p6, fun i hi => ?_⟩
    · rw [(o8 l2 (by omega) (fun z => z.elim (fun y => l12 y.symm) (fun y => ne L2.1 kb1 (by decide) y))).2.2.2]
      exact p2
    · rw [(o8 b2 (by omega) (fun z => z.elim (fun y => lb22 y.symm) (fun y => b12 y.symm))).2.2.2]
      exact p7 i hi
  have hc2 : c2 ≤ 400 := by
    have := T2 b2 L2.2.1
    rw [L2.2.2.1] at this
    exact this.1.2
  obtain ⟨rv, s9, b', c', e9, L9, T9, o9, k9, t9, v9, hb9, rl9⟩ := e_J2_addAll L8 T8 L28 v8 ⟨l12, lb12, lb22, b12⟩ hn hc2 (fun i hi => by
    rw [z1, k7]
    exact ⟨by rw [(hE i hi).1]; decide, by have := (hE i hi).2; omega⟩) (by omega) (by omega)
  have n89 : sn s8 = sn s := by omega
  have hk9 : ∀ y, y < sn s → sk s9 y = sk s y := fun y hy => by rw [k9 y (by omega), z1, k7]
  have no1 : ∀ y, y ≠ l1 → y ≠ b1 → ¬ two l1 b1 y := fun y h1 h2 z => z.elim h1 h2
  have hr9 : ∀ y, y < sn s → y ≠ l1 → y ≠ b1 → sr s9 y = sr s y := fun y hy h1 h2 => by
    rw [(o9 y (by omega) (no1 y h1 h2)).2.2.2, (o8 y (by omega) (no1 y h1 h2)).2.2.2, r7]
  have hi9 : ∀ y, y < sn s → y ≠ l1 → y ≠ b1 → si s9 y = si s7 y := fun y hy h1 h2 => by
    rw [(o9 y (by omega) (no1 y h1 h2)).2.1, i8 y h1]
  have hl9 : ∀ y, y < sn s → y ≠ l1 → y ≠ b1 → sl s9 y = sl s y := fun y hy h1 h2 => by
    rw [(o9 y (by omega) (no1 y h1 h2)).2.2.1, (o8 y (by omega) (no1 y h1 h2)).2.2.1, q7.1]
  have a1l : a1 ≠ l1 := ne S1.1 L1.1 (by decide)
  have a1b : a1 ≠ b1 := ne S1.1 kb1 (by decide)
  have a2l : a2 ≠ l1 := ne S2.1 L1.1 (by decide)
  have a2b : a2 ≠ b1 := ne S2.1 kb1 (by decide)
  have rl1 : sr s8 a1 7 = some l1 := by rw [(o8 a1 (by omega) (no1 _ a1l a1b)).2.2.2, r7]; exact S1.2.2
  have rl2 : sr s8 a2 7 = some l2 := by rw [(o8 a2 (by omega) (no1 _ a2l a2b)).2.2.2, r7]; exact S2.2.2
  have i2 : ∀ k : Int, 8 ≤ k → k ≤ 10 → si s9 a2 k.toNat = iI (w 2 k) := fun k h8 h10 => by
    rw [hi9 a2 la2 a2l a2b, i7 a2 (fun j hj => ne S2.1 (kA1 j hj) (by decide))]
    exact R2.2 k h8 h10
  refine ⟨setI (setI (setI s9 a1 8 (si s9 a2 8)) a1 9 (si s9 a2 9)) a1 10 (si s9 a2 10), b', c', ?_, ⟨by show (sk s9 a1).1 = 1; rw [hk9 a1 la1]; exact S1.1, fun j hj => ⟨by show sr s9 a1 j = _; rw [hr9 a1 la1 a1l a1b]; exact (S1.2.1 j hj).1, by show sk s9 (A1 j) = _; rw [hk9 _ (lA j hj)]; exact (S1.2.1 j hj).2⟩, by show sr s9 a1 7 = _; rw [hr9 a1 la1 a1l a1b]; exact S1.2.2⟩, ⟨fun j k hj h0 hk => ?_, fun k h8 h10 => ?_⟩, ?_, ?_, ?_, hk9, hr9, ?_, v9, ?_⟩
  · unfold F_X1_takes
    rw [isK_g S1.1, drf_s, isK_g S2.1, e0, bnd_s]
    rw [g1, drf_s, g2, eR 1 (by decide), bnd_s]
    rw [g1, drf_s, g2, eR 2 (by decide), bnd_s]
    rw [g1, drf_s, g2, eR 3 (by decide), bnd_s]
    rw [g1, drf_s, g2, eR 4 (by decide), bnd_s]
    rw [g1, drf_s, g2, eR 5 (by decide), bnd_s]
    rw [g1, drf_s, g2, eR 6 (by decide), bnd_s]
    show gd (isK (rowsS s A1 A2 7) a1 1) _ = _
    rw [g1]
    show drf (sr (rowsS s A1 A2 7) a1 7) _ = _
    rw [← h7, r7, S1.2.2, drf_s, isK_g (by rw [k7]; exact L1.1), e8, bnd_s, isK_g (by rw [z1, k7]; exact S1.1), drf_s, isK_g (by rw [z1, k7]; exact S2.1), rl1, drf_s, isK_g L8.1, rl2, e9, bnd_s, drf_s, isK_g (by rw [hk9 a2 la2]; exact S2.1), isK_g (by rw [hk9 a1 la1]; exact S1.1), nam_v]
    rw [drf_s, isK_1, isK_g (by rw [hk9 a2 la2]; exact S2.1), isK_1, isK_g (by rw [hk9 a1 la1]; exact S1.1), nam_v]
    rw [drf_s, isK_1, isK_1, isK_g (by rw [hk9 a2 la2]; exact S2.1), isK_1, isK_1, isK_g (by rw [hk9 a1 la1]; exact S1.1), nam_v]
    rw [si_set, if_neg a12.symm, si_set, if_neg a12.symm, si_set, if_neg a12.symm]
  · have n1 : A1 j ≠ a1 := ne (kA1 j hj) S1.1 (by decide)
    rw [si_set, if_neg n1, si_set, if_neg n1, si_set, if_neg n1, hi9 _ (lA j hj) (ne (kA1 j hj) L1.1 (by decide)) (ne (kA1 j hj) kb1 (by decide)), h7, rowsS_i x12 hA 7 (Nat.le_refl _) j hj _ (by omega)]
    exact R2.1 j k hj h0 hk
  · have hk : k = 8 ∨ k = 9 ∨ k = 10 := by omega
    rcases hk with rfl | rfl | rfl
    · show si (setI (setI (setI s9 a1 8 (si s9 a2 8)) a1 9 (si s9 a2 9)) a1 10 (si s9 a2 10)) a1 8 = _
      rw [si_set, if_pos rfl, if_neg (by decide), si_set, if_pos rfl, if_neg (by decide), si_set, if_pos rfl, if_pos rfl]
      exact i2 8 (by decide) (by decide)
    · show si (setI (setI (setI s9 a1 8 (si s9 a2 8)) a1 9 (si s9 a2 9)) a1 10 (si s9 a2 10)) a1 9 = _
      rw [si_set, if_pos rfl, if_neg (by decide), si_set, if_pos rfl, if_pos rfl]
      exact i2 9 (by decide) (by decide)
    · show si (setI (setI (setI s9 a1 8 (si s9 a2 8)) a1 9 (si s9 a2 9)) a1 10 (si s9 a2 10)) a1 10 = _
      rw [si_set, if_pos rfl, if_pos rfl]
      exact i2 10 (by decide) (by decide)
  · obtain ⟨p1, p2, p3, p4, p5, p6, p7⟩ := L9
    refine ⟨p1, p2, p3, p4, p5, ?_, p7⟩
    rw [si_set, if_neg a1l.symm, si_set, if_neg a1l.symm, si_set, if_neg a1l.symm]
    exact p6
  · exact T9
  · intro y hy hS
    have y1 : y ≠ a1 := fun z => hS (Or.inl z)
    have y2 : y ≠ l1 := fun z => hS (Or.inr (Or.inr (Or.inl z)))
    have y3 : y ≠ b1 := fun z => hS (Or.inr (Or.inr (Or.inr z)))
    refine ⟨hk9 y hy, ?_, hl9 y hy y2 y3, hr9 y hy y2 y3⟩
    funext k
    rw [si_set, if_neg y1, si_set, if_neg y1, si_set, if_neg y1, hi9 y hy y2 y3, i7 y (fun j hj z => hS (Or.inr (Or.inl ⟨j, hj, z⟩)))]
  · obtain ⟨u1, u2, u3, u4, u5, u6⟩ := t9
    exact ⟨by show sn s ≤ sn s9; omega, by show sn s9 ≤ _; omega, by show ss s ≤ ss s9; omega, by show ss s9 ≤ _; omega, by show smx s9 = _; omega, by show sms s9 = _; omega⟩
  · rcases hb9 with h | h
    · exact Or.inl h
    · exact Or.inr (by omega)
