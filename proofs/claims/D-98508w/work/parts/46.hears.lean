set_option maxRecDepth 100000
/-! ===== the component: others have heard of a throw ===== -/
theorem besideZ_r {c d : Int} : -1 ≤ besideZ c d ∧ besideZ c d ≤ 35 := cellA_r
/-- the best step so far: from the direction d on, n of them -/
noncomputable def dirF (w : WR) (ls : List (List DC)) (fl : FL) (p : Int → Int) (c : Int) : Nat → Int → Int × Int → Int × Int
  | 0, _, q => q
  | n + 1, d, q => dirF w ls fl p c n (d + 1) (@ite _ (besideZ (p c) d ≠ -1 ∧ canGoP w ls p c (besideZ (p c) d) ∧ q.2 < chF w ls (w 2 8) c (fup p c (besideZ (p c) d)) fl) (Classical.propDecidable _) (besideZ (p c) d, chF w ls (w 2 8) c (fup p c (besideZ (p c) d)) fl) q)
noncomputable def hrC (w : WR) (ls : List (List DC)) (fl : FL) (p : Int → Int) (c : Int) : Int := (dirF w ls fl p c 4 0 (p c, chF w ls (w 2 8) c p fl)).1
/-- others hear: from the catcher c on, n of them -/
noncomputable def hrF (w : WR) (ls : List (List DC)) (fl : FL) (friend : Int) : Nat → Int → (Int → Int) → (Int → Int)
  | 0, _, p => p
  | n + 1, c, p => hrF w ls fl friend n (c + 1) (if c = friend ∨ w 5 c ≤ 0 then p else fup p c (hrC w ls fl p c))
theorem e_X0_hears_64 {D : Nat → Prop} {w : WR} {ls : List (List DC)} (hW : Wf w ls) {fl : FL} {a b c1 : Nat} (ha : ¬ t28 a ∧ ¬ t28 b ∧ ¬ t28 c1) {p : Int → Int} {c fr : Int} (hc : 0 ≤ c ∧ c < w 2 8) {k : St → Option Nat → Int32 → Int32 → Option (Unit × St)} : ∀ (n : Nat) (d : Int) (s : St) (q : Int × Int), Cw D s w ls → FlE s a b c1 fl → PpE s p → 0 ≤ d → 4 = n + d → (0 ≤ q.1 ∧ q.1 ≤ 35) → (0 ≤ q.2 ∧ q.2 ≤ 60 * sumW fl) → ∀ fu, n < fu → ∃ s1, F_X0_hears_64 k fu s (some a) (iI fr) (iI c) (iI (p c)) (iI q.1) (lI q.2) (iI d) = k s1 (some a) (iI fr) (iI (c + 1)) ∧ Cw D s1 w ls ∧ FlE s1 a b c1 fl ∧ PpE s1 (fup p c (dirF w ls fl p c n d q).1) ∧ Fr t28 s s1 := by
  have hm := hW.1
  intro n
  induction n with
  | zero =>
    intro d s q hC hF hP h0 hn h1 h2 fu hfu
    obtain ⟨g, rfl⟩ : ∃ g, fu = g + 1 := ⟨fu - 1, by omega⟩
    have f1 : Fr t28 s (setI s 28 c.toNat (iI q.1)) := Fr.set rfl
    refine ⟨_, ?_, hC.pp (k := c.toNat) (v := iI q.1), hF.fr f1 ha.1 ha.2.1 ha.2.2, hP.set hc.1 h1, f1⟩
    rw [F_X0_hears_64]
    show (if (4 : Int32) ≤ iI d then _ else _) = _
    rw [k_4, if_pos (by rw [iI_le (by omega) (by omega)]; omega), inb_g (by omega), nam_v, iI_nat (by omega), k_1, iI_add]
  | succ n ih =>
    intro d s q hC hF hP h0 hn h1 h2 fu hfu
    obtain ⟨fu, rfl⟩ : ∃ g, fu = g + 1 := ⟨fu - 1, by omega⟩
    have hs := hF.sum
    have hpc := hP c hc.1 (by omega)
    have hbr := besideZ_r (c := p c) (d := d)
    have skip : ∀ s', ¬ (besideZ (p c) d ≠ -1 ∧ canGoP w ls p c (besideZ (p c) d) ∧ q.2 < chF w ls (w 2 8) c (fup p c (besideZ (p c) d)) fl) → Cw D s' w ls → FlE s' a b c1 fl → PpE s' p → Fr t28 s s' → ∃ s1, F_X0_hears_64 k fu s' (some a) (iI fr) (iI c) (iI (p c)) (iI q.1) (lI q.2) (iI d + 1) = k s1 (some a) (iI fr) (iI (c + 1)) ∧ Cw D s1 w ls ∧ FlE s1 a b c1 fl ∧ PpE s1 (fup p c (dirF w ls fl p c (n + 1) d q).1) ∧ Fr t28 s s1 := fun s' hno hC' hF' hP' hr' => by
      obtain ⟨s1, e1, q1, F1, P1, r1⟩ := ih (d + 1) s' q hC' hF' hP' (by omega) (by omega) h1 h2 fu (by omega)
      rw [k_1, iI_add, dirF, if_neg hno]
      exact ⟨s1, e1, q1, F1, P1, hr'.tr r1⟩
    rw [F_X0_hears_64]
    show ∃ s1, (if (4 : Int32) ≤ iI d then _ else _) = _ ∧ _
    rw [k_4, if_neg (by rw [iI_le (by omega) (by omega)]; omega), e_X0_beside s hpc.2 (by omega), bnd_s, k_m1, k_0]
    by_cases a1 : besideZ (p c) d = -1
    · rw [if_pos (by rw [a1])]
      exact skip s (fun z => z.1 a1) hC hF hP Fr.rf
    · obtain ⟨g, e⟩ := e_X0_canGo hC.1 hW (hC.1.1.1 28 (by decide)) hP.wk (c := c) (cell := besideZ (p c) d) (by omega) (by omega)
      have f0 : Fr t28 s (wV s g) := Fr.wV
      rw [if_neg (by rw [iI_eq (by omega) (by omega)]; exact a1), e, bnd_s]
      by_cases a2 : canGoP w ls p c (besideZ (p c) d)
      · have hC1 := (hC.wV (g := g)).pp (k := c.toNat) (v := iI (besideZ (p c) d))
        have f1 : Fr t28 s (setI (wV s g) 28 c.toNat (iI (besideZ (p c) d))) := f0.tr (Fr.set rfl)
        have hF1 := hF.fr f1 ha.1 ha.2.1 ha.2.2
        have hP1 : PpE (setI (wV s g) 28 c.toNat (iI (besideZ (p c) d))) (fup p c (besideZ (p c) d)) := PpE.set (s := wV s g) hP hc.1 (by omega)
        have hC2 := hC1.pp (k := c.toNat) (v := iI (p c))
        have f2 : Fr t28 s (setI (setI (wV s g) 28 c.toNat (iI (besideZ (p c) d))) 28 c.toNat (iI (p c))) := f1.tr (Fr.set rfl)
        have hF2 := hF.fr f2 ha.1 ha.2.1 ha.2.2
        have hP2 := hP1.set (v := p c) hc.1 hpc.2
        rw [fup_2, fup_id] at hP2
        have hch := hF.cO (w := w) (ls := ls) (n := w 2 8) (c := c) (f := fup p c (besideZ (p c) d))
        rw [if_neg (by rw [bZ_i0]; exact fun z => z a2), inb_g (by omega), nam_v, iI_nat (by omega), hC1.chance hW hF1 hP1 (Or.inr hc), bnd_s, inb_g (by omega), nam_v]
        by_cases hq : q.2 < chF w ls (w 2 8) c (fup p c (besideZ (p c) d)) fl
        · rw [if_pos (by rw [lI_lt (by omega) (by omega)]; exact hq)]
          obtain ⟨s1, e1, q1, F1, P1, r1⟩ := ih (d + 1) _ (besideZ (p c) d, chF w ls (w 2 8) c (fup p c (besideZ (p c) d)) fl) hC2 hF2 hP2 (by omega) (by omega) (show 0 ≤ besideZ (p c) d ∧ besideZ (p c) d ≤ 35 by omega) hch fu (by omega)
          rw [k_1, iI_add, dirF, if_pos ⟨a1, a2, hq⟩]
          exact ⟨s1, e1, q1, F1, P1, f2.tr r1⟩
        · rw [if_neg (by rw [lI_lt (by omega) (by omega)]; exact hq)]
          exact skip _ (fun z => hq z.2.2) hC2 hF2 hP2 f2
      · rw [if_pos (by rw [bZ_i0]; exact a2)]
        exact skip _ (fun z => a2 z.2.1) hC.wV (hF.fr f0 ha.1 ha.2.1 ha.2.2) hP f0
theorem e_X0_hears_6 {D : Nat → Prop} {w : WR} {ls : List (List DC)} (hW : Wf w ls) {fl : FL} {a b c1 : Nat} (ha : ¬ t28 a ∧ ¬ t28 b ∧ ¬ t28 c1) {fr : Int} (hfr : 0 ≤ fr ∧ fr < 6) : ∀ (n : Nat) (c : Int) (s : St) (p : Int → Int), Cw D s w ls → FlE s a b c1 fl → PpE s p → 0 ≤ c → w 2 8 = n + c → ∀ fu, n < fu → ∃ s1, F_X0_hears_6 fu s (some a) (iI fr) (iI c) = some ((), s1) ∧ Cw D s1 w ls ∧ FlE s1 a b c1 fl ∧ PpE s1 (hrF w ls fl fr n c p) ∧ Fr t28 s s1 := by
  have hm := hW.1
  intro n
  induction n with
  | zero =>
    intro c s p hC hF hP h0 hn fu hfu
    obtain ⟨g, rfl⟩ : ∃ g, fu = g + 1 := ⟨fu - 1, by omega⟩
    refine ⟨s, ?_, hC, hF, hP, Fr.rf⟩
    rw [F_X0_hears_6]
    show (if si s 2 8 ≤ iI c then _ else _) = _
    rw [hC.1.2.1.many, if_pos (by rw [iI_le (by omega) (by omega)]; omega)]
  | succ n ih =>
    intro c s p hC hF hP h0 hn fu hfu
    obtain ⟨fu, rfl⟩ : ∃ g, fu = g + 1 := ⟨fu - 1, by omega⟩
    have hs := hF.sum
    have hpc := hP c h0 (by omega)
    have hcat := hW.cat (c := c) h0 (by omega)
    rw [F_X0_hears_6]
    show ∃ s1, (if si s 2 8 ≤ iI c then _ else _) = _ ∧ _
    rw [hC.1.2.1.many, if_neg (by rw [iI_le (by omega) (by omega)]; omega), k_1, iI_add, hrF]
    by_cases a1 : c = fr
    · rw [if_pos (by rw [a1]), if_pos (Or.inl a1)]
      exact ih (c + 1) s p hC hF hP (by omega) (by omega) fu (by omega)
    · rw [if_neg (by rw [iI_eq (by omega) (by omega)]; exact a1), inb_g (by omega), iI_nat (by omega), hC.1.2.1 5 c h0 (by show _ < _; omega), k_0]
      by_cases a2 : 0 < w 5 c
      · have hch := hF.cO (w := w) (ls := ls) (n := w 2 8) (c := c) (f := p)
        obtain ⟨s1, e1, q1, F1, P1, r1⟩ := e_X0_hears_64 hW ha (c := c) (fr := fr) (by omega) (k := F_X0_hears_6 fu) 4 0 s (p c, chF w ls (w 2 8) c p fl) hC hF hP (by omega) (by omega) hpc.2 hch FU (FU_ge (by omega))
        obtain ⟨s2, e2, q2, F2, P2, r2⟩ := ih (c + 1) s1 _ q1 F1 P1 (by omega) (by omega) fu (by omega)
        rw [if_pos (by rw [iI_lt (by omega) (by omega)]; exact a2), if_neg (fun z => z.elim a1 (by omega)), inb_g (by omega), hC.chance hW hF hP (Or.inr ⟨h0, by omega⟩), bnd_s, hpc.1, e1, e2]
        exact ⟨s2, rfl, q2, F2, P2, r1.tr r2⟩
      · rw [if_neg (by rw [iI_lt (by omega) (by omega)]; exact a2), if_pos (Or.inr (by omega))]
        exact ih (c + 1) s p hC hF hP (by omega) (by omega) fu (by omega)
noncomputable def hrP (w : WR) (ls : List (List DC)) (fl : FL) (friend : Int) : Int → Int := hrF w ls fl friend (w 2 8).toNat 0 (w 3)
theorem e_X0_hears {D : Nat → Prop} {s : St} {w : WR} {ls : List (List DC)} (hW : Wf w ls) {A : Nat} (hL : LkA D s w ls A) {j fr : Int} (hj : 0 ≤ j ∧ j < 25) (hfr : 0 ≤ fr ∧ fr < 6) : ∃ s1, F_X0_hears s (some (A + 3 * j.toNat)) (iI fr) = some ((), s1) ∧ LkA D s1 w ls A ∧ PpE s1 (hrP w ls (thL w ls j) fr) ∧ Fr t28 s s1 := by
  obtain ⟨s1, e1, c1, P1, r1⟩ := e_X0_copies hL.1.1 hW
  have L1 := hL.go r1.n1 c1
  obtain ⟨f1, f2, f3, f4⟩ := e_X0_fl (α := Unit × St) hj L1.2.2
  have h31 := hL.2.1
  have nt : ∀ x, 31 ≤ x → ¬ t28 x := fun x hx z => by
    have z : x = 28 := z
    omega
  obtain ⟨s2, e2, c2, F2, P2, r2⟩ := e_X0_hears_6 hW ⟨nt _ (by omega), nt _ (by omega), nt _ (by omega)⟩ hfr (w 2 8).toNat 0 s1 (w 3) L1.1 f2 P1 (by omega) (by have := hW.1; omega) FU (FU_ge (by have := hW.1; omega))
  refine ⟨s2, ?_, L1.go r2.n1 c2.1, P2, r1.tr r2⟩
  unfold F_X0_hears
  rw [e1, bnd_s, k_0, e2]
noncomputable def hdU (w : WR) (ls : List (List DC)) (c : Int) (j : Int) : Int := chF w ls (w 2 8) c (hrP w ls (thL w ls j) c) (thL w ls j)
theorem e_X0_heard_34 {D : Nat → Prop} {w : WR} {ls : List (List DC)} (hW : Wf w ls) {A : Nat} {c what : Int} (hc : 0 ≤ c ∧ c < w 2 8) (hw : 0 ≤ what ∧ what ≤ 3) : ∀ (n : Nat) (j : Int) (s : St) (q : Int × Int × Int), LkA D s w ls A → BsE s q.2 → mxO q → (0 < n ∨ 0 ≤ q.2.1) → 0 ≤ j → 25 = n + j → (0 ≤ q.1 ∧ q.1 ≤ 24) → ∀ fu, n < fu → ∃ s1, F_X0_heard_34 fu s (iI c) (iI what) (iI q.1) (iI j) = some (lI (frZ (mxF (hdU w ls c) (frL w ls) n j q).1 what (mxF (hdU w ls c) (frL w ls) n j q).2), s1) ∧ C0 D s1 w ls ∧ Fr n28 s s1 := by
  have hm := hW.1
  intro n
  induction n with
  | zero =>
    intro j s q hL hB hq h0 hj hn h1 fu hfu
    obtain ⟨fu, rfl⟩ : ∃ g, fu = g + 1 := ⟨fu - 1, by omega⟩
    refine ⟨s, ?_, hL.1.1, Fr.rf⟩
    rw [F_X0_heard_34]
    show (if (25 : Int32) ≤ iI j then _ else _) = _
    rw [k_25, if_pos (by rw [iI_le (by omega) (by omega)]; omega), e_X0_friendOf s hB ⟨h0.resolve_left (by omega), hq.1.2⟩ hq.2 h1 (by omega), bnd_s]
    rfl
  | succ n ih =>
    intro j s q hL hB hq h0 hj hn h1 fu hfu
    obtain ⟨fu, rfl⟩ : ∃ g, fu = g + 1 := ⟨fu - 1, by omega⟩
    obtain ⟨f1, f2, f3, f4⟩ := e_X0_fl (α := Int64 × St) (j := j) (by omega) hL.2.2
    obtain ⟨s0, e0, L0, P0, r0⟩ := e_X0_hears hW hL (j := j) (fr := c) (by omega) (by omega)
    obtain ⟨g1, g2, g3, g4⟩ := e_X0_fl (α := Int64 × St) (j := j) (by omega) L0.2.2
    have hu : mxU (hdU w ls c) (frL w ls) := th_mx hW (g := fun j => hrP w ls (thL w ls j) c) (n := w 2 8) (c := c)
    have hj2 := hu j
    have hst := mxO.step hu hq (j := j)
    have B0 : BsE s0 q.2 := by
      exact hB.fr (r0.2.2.2.2 0 (by decide) (Or.inr (by decide)))
    obtain ⟨s1, e1, c1, b1, r1⟩ := e_X0_isMore L0.1.1 B0 (u := hdU w ls c j) (l := frL w ls j) (by omega) (by omega) (by have := hq.1; omega) (by have := hq.2; omega)
    have hL1 := L0.go r1.n2 c1
    rw [F_X0_heard_34]
    show ∃ s1, (if (25 : Int32) ≤ iI j then _ else _) = _ ∧ _
    rw [k_25, if_neg (by rw [iI_le (by omega) (by omega)]; omega), f4, f1, e0, bnd_s, g4, g1, L0.1.chance hW g2 P0 (Or.inr hc), bnd_s, g4, g1, drf_s, isK_g g3, e_X4_lower g2, bnd_s]
    show ∃ s2, bnd (F_X0_isMore s0 (lI (hdU w ls c j)) (lI (frL w ls j))) _ = _ ∧ _
    rw [e1, bnd_s, k_0, k_1, iI_add, mxF]
    by_cases hm : q.2.1 * frL w ls j < hdU w ls c j * q.2.2
    · rw [if_pos hm] at b1 ⊢
      rw [if_neg (by rw [bZ_i0]; exact fun z => z hm)]
      obtain ⟨s2, e2, c2, r2⟩ := ih (j + 1) s1 (j, hdU w ls c j, frL w ls j) hL1 b1 (by have := hst.1; rw [if_pos hm] at this; exact this) (Or.inr (by have := hst.2; rw [if_pos hm] at this; exact this)) (by omega) (by omega) (show 0 ≤ j ∧ j ≤ 24 by omega) fu (by omega)
      exact ⟨s2, e2, c2, (r0.n1.tr r1.n2).tr r2⟩
    · rw [if_neg hm] at b1 ⊢
      rw [if_pos (by rw [bZ_i0]; exact hm)]
      obtain ⟨s2, e2, c2, r2⟩ := ih (j + 1) s1 q hL1 b1 hq (Or.inr (by have := hst.2; rw [if_neg hm] at this; exact this)) (by omega) (by omega) h1 fu (by omega)
      exact ⟨s2, e2, c2, (r0.n1.tr r1.n2).tr r2⟩
noncomputable def heardV (w : WR) (ls : List (List DC)) (c what : Int) : Int := @ite _ (isC w c ∧ (0 ≤ what ∧ what ≤ 3)) (Classical.propDecidable _) (frZ (mxF (hdU w ls c) (frL w ls) 25 0 (0, -1, 1)).1 what (mxF (hdU w ls c) (frL w ls) 25 0 (0, -1, 1)).2) (-1)
theorem x_heard {D : Nat → Prop} {s : St} {w : WR} {ls : List (List DC)} (hC : C0 D s w ls) (hW : Wf w ls) {o : Option Nat} (hM : Mem D s o) (hR : Room s o) {c what : Int} (h1 : i32 c) (h2 : i32 what) : OpA D s ls o (F_X0_heard s (iI c) (iI what)) (lI (heardV w ls c what)) w := by
  have hm := hW.1
  unfold i32 at h1 h2
  unfold F_X0_heard heardV
  rw [e_X0_isCatcher hC.2.1 hm h1, bnd_s, K_m1, k_0, k_3]
  by_cases a1 : isC w c
  · have a3 : 0 ≤ c ∧ c < w 2 8 := a1
    rw [if_neg (by rw [bZ_i0]; exact fun z => z a1), e_X0_in s (by omega) (by omega) (by omega), bnd_s]
    by_cases a2 : 0 ≤ what ∧ what ≤ 3
    · obtain ⟨s1, A, e1, L1, F1, M1, G1⟩ := e_X0_looksAtAll hC hW hM hR
      obtain ⟨s2, e2, c2, b2, r2⟩ := e_X0_none L1.1.1
      obtain ⟨s3, e3, c3, r3⟩ := e_X0_heard_34 hW a3 a2 25 0 s2 (0, -1, 1) (L1.go r2.n2 c2) b2 mxO_0 (Or.inl (by omega)) (by omega) (by omega) (by decide) FU (FU_ge (by omega))
      rw [if_neg (by rw [bZ_i0]; exact fun z => z a2), if_pos ⟨a1, a2⟩, e1, bnd_s, e2, bnd_s, e3]
      exact ⟨s3, some A, rfl, c3, (M1.fr r2).fr r3, (G1.go r2.n2).go r3⟩
    · rw [if_pos (by rw [bZ_i0]; exact a2), if_neg (fun z => a2 z.2)]
      exact OpA.of hM hC Sm.rf
  · rw [if_pos (by rw [bZ_i0]; exact a1), if_neg (fun z => a1 z.1)]
    exact OpA.of hM hC Sm.rf
/-! a feint -/
def ftF (u l : Int → Int) (a : Int) : Nat → Int → Int × Int × Int × Int → Int × Int × Int × Int
  | 0, _, q => q
  | n + 1, j, q => ftF u l a n (j + 1) (if q.2.2.1 * l j < u j * q.2.2.2 then (a, j, u j, l j) else q)
theorem ftF_mx {u l : Int → Int} {a : Int} : ∀ (n : Nat) (j : Int) (q : Int × Int × Int × Int), (ftF u l a n j q).2 = mxF u l n j q.2
  | 0, _, _ => rfl
  | n + 1, j, q => by
    rw [ftF, mxF, ftF_mx n]
    split <;> rfl
theorem ftF_1 {u l : Int → Int} {a : Int} : ∀ (n : Nat) (j : Int) (q : Int × Int × Int × Int), (ftF u l a n j q).1 = a ∨ (ftF u l a n j q).1 = q.1
  | 0, _, _ => Or.inr rfl
  | n + 1, j, q => by
    rw [ftF]
    have := ftF_1 (u := u) (l := l) (a := a) n (j + 1) (if q.2.2.1 * l j < u j * q.2.2.2 then (a, j, u j, l j) else q)
    rcases this with h | h
    · exact Or.inl h
    · rw [h]
      split
      · exact Or.inl rfl
      · exact Or.inr rfl
def ftG (u : Int → Int → Int) (l : Int → Int) : Nat → Int → Int × Int × Int × Int → Int × Int × Int × Int
  | 0, _, q => q
  | n + 1, a, q => ftG u l n (a + 1) (ftF (u a) l a 25 0 q)
noncomputable def ftU (w : WR) (ls : List (List DC)) (c a j : Int) : Int := chF w ls (w 2 8) c (hrP w ls (thL w ls a) c) (thL w ls j)
theorem e_X0_feint_59 {D : Nat → Prop} {w : WR} {ls : List (List DC)} (hW : Wf w ls) {A : Nat} {c what a : Int} (hc : 0 ≤ c ∧ c < w 2 8) (ha : 0 ≤ a ∧ a < 25) {k : St → Int32 → Int32 → Int32 → Int32 → Int32 → Option (Int64 × St)} : ∀ (n : Nat) (j : Int) (s : St) (q : Int × Int × Int × Int), LkA D s w ls A → PpE s (hrP w ls (thL w ls a) c) → BsE s q.2.2 → mxO q.2 → 0 ≤ j → 25 = n + j → ∀ fu, n < fu → ∃ s1, F_X0_feint_59 k fu s (iI c) (iI what) (iI q.1) (iI q.2.1) (iI a) (iI j) = k s1 (iI c) (iI what) (iI (ftF (ftU w ls c a) (frL w ls) a n j q).1) (iI (ftF (ftU w ls c a) (frL w ls) a n j q).2.1) (iI (a + 1)) ∧ LkA D s1 w ls A ∧ BsE s1 (ftF (ftU w ls c a) (frL w ls) a n j q).2.2 ∧ Fr n28 s s1 := by
  intro n
  induction n with
  | zero =>
    intro j s q hL hP hB hq hj hn fu hfu
    obtain ⟨fu, rfl⟩ : ∃ g, fu = g + 1 := ⟨fu - 1, by omega⟩
    refine ⟨s, ?_, hL, hB, Fr.rf⟩
    rw [F_X0_feint_59]
    show (if (25 : Int32) ≤ iI j then _ else _) = _
    rw [k_25, if_pos (by rw [iI_le (by omega) (by omega)]; omega), k_1, iI_add]
    rfl
  | succ n ih =>
    intro j s q hL hP hB hq hj hn fu hfu
    obtain ⟨fu, rfl⟩ : ∃ g, fu = g + 1 := ⟨fu - 1, by omega⟩
    obtain ⟨g1, g2, g3, g4⟩ := e_X0_fl (α := Int64 × St) (j := j) (by omega) hL.2.2
    have hu : mxU (ftU w ls c a) (frL w ls) := th_mx hW (g := fun _ => hrP w ls (thL w ls a) c) (n := w 2 8) (c := c)
    have hj2 := hu j
    have hst := mxO.step hu hq (j := j)
    obtain ⟨s1, e1, c1, b1, r1⟩ := e_X0_isMore hL.1.1 hB (u := ftU w ls c a j) (l := frL w ls j) (by omega) (by omega) (by have := hq.1; omega) (by have := hq.2; omega)
    have hL1 := hL.go r1.n2 c1
    have hP1 := hP.fr r1 (by decide)
    rw [F_X0_feint_59]
    show ∃ s1, (if (25 : Int32) ≤ iI j then _ else _) = _ ∧ _
    rw [k_25, if_neg (by rw [iI_le (by omega) (by omega)]; omega), g4, g1, hL.1.chance hW g2 hP (Or.inr hc), bnd_s, g4, g1, drf_s, isK_g g3, e_X4_lower g2, bnd_s]
    show ∃ s2, bnd (F_X0_isMore s (lI (ftU w ls c a j)) (lI (frL w ls j))) _ = _ ∧ _
    rw [e1, bnd_s, k_0, k_1, iI_add, ftF]
    by_cases hm : q.2.2.1 * frL w ls j < ftU w ls c a j * q.2.2.2
    · rw [if_pos hm] at b1 ⊢
      rw [if_neg (by rw [bZ_i0]; exact fun z => z hm)]
      obtain ⟨s2, e2, L2, b2, r2⟩ := ih (j + 1) s1 (a, j, ftU w ls c a j, frL w ls j) hL1 hP1 b1 (by have := hst.1; rw [if_pos hm] at this; exact this) (by omega) (by omega) fu (by omega)
      exact ⟨s2, e2, L2, b2, r1.n2.tr r2⟩
    · rw [if_neg hm] at b1 ⊢
      rw [if_pos (by rw [bZ_i0]; exact hm)]
      obtain ⟨s2, e2, L2, b2, r2⟩ := ih (j + 1) s1 q hL1 hP1 b1 hq (by omega) (by omega) fu (by omega)
      exact ⟨s2, e2, L2, b2, r1.n2.tr r2⟩
noncomputable def ftZ (what : Int) (q : Int × Int × Int × Int) : Int := if what < 2 then frZ q.1 what q.2.2 else frZ q.2.1 (what - 2) q.2.2
theorem e_X0_feint_37 {D : Nat → Prop} {w : WR} {ls : List (List DC)} (hW : Wf w ls) {A : Nat} {c what : Int} (hc : 0 ≤ c ∧ c < w 2 8) (hw : 0 ≤ what ∧ what ≤ 5) : ∀ (n : Nat) (a : Int) (s : St) (q : Int × Int × Int × Int), LkA D s w ls A → BsE s q.2.2 → mxO q.2 → (0 < n ∨ 0 ≤ q.2.2.1) → 0 ≤ a → 25 = n + a → (0 ≤ q.1 ∧ q.1 ≤ 24) → (0 ≤ q.2.1 ∧ q.2.1 ≤ 24) → ∀ fu, n < fu → ∃ s1, F_X0_feint_37 fu s (iI c) (iI what) (iI q.1) (iI q.2.1) (iI a) = some (lI (ftZ what (ftG (ftU w ls c) (frL w ls) n a q)), s1) ∧ C0 D s1 w ls ∧ Fr n28 s s1 := by
  have hm := hW.1
  intro n
  induction n with
  | zero =>
    intro a s q hL hB hq h0 ha hn h1 h2 fu hfu
    obtain ⟨fu, rfl⟩ : ∃ g, fu = g + 1 := ⟨fu - 1, by omega⟩
    have hq1 : 0 ≤ q.2.2.1 ∧ q.2.2.1 ≤ 1000000 := ⟨h0.resolve_left (by omega), hq.1.2⟩
    refine ⟨s, ?_, hL.1.1, Fr.rf⟩
    rw [F_X0_feint_37, ftG]
    show (if (25 : Int32) ≤ iI a then _ else _) = _
    unfold ftZ
    rw [k_25, if_pos (by rw [iI_le (by omega) (by omega)]; omega), k_2, iI_sub]
    by_cases b : what < 2
    · rw [if_neg (by rw [iI_le (by omega) (by omega)]; omega), e_X0_friendOf s hB hq1 hq.2 h1 (by omega), bnd_s, if_pos b]
    · rw [if_pos (by rw [iI_le (by omega) (by omega)]; omega), e_X0_friendOf s hB hq1 hq.2 h2 (by omega), bnd_s, if_neg b]
  | succ n ih =>
    intro a s q hL hB hq h0 ha hn h1 h2 fu hfu
    obtain ⟨fu, rfl⟩ : ∃ g, fu = g + 1 := ⟨fu - 1, by omega⟩
    obtain ⟨f1, f2, f3, f4⟩ := e_X0_fl (α := Int64 × St) (j := a) (by omega) hL.2.2
    obtain ⟨s0, e0, L0, P0, r0⟩ := e_X0_hears hW hL (j := a) (fr := c) (by omega) (by omega)
    have B0 : BsE s0 q.2.2 := hB.fr (r0.2.2.2.2 0 (by decide) (Or.inr (by decide)))
    obtain ⟨s1, e1, L1, B1, r1⟩ := e_X0_feint_59 hW (what := what) hc (a := a) (by omega) (k := F_X0_feint_37 fu) 25 0 s0 q L0 P0 B0 hq (by omega) (by omega) FU (FU_ge (by omega))
    have hu : mxU (ftU w ls c a) (frL w ls) := th_mx hW (g := fun _ => hrP w ls (thL w ls a) c) (n := w 2 8) (c := c)
    have hmx := ftF_mx (u := ftU w ls c a) (l := frL w ls) (a := a) 25 0 q
    have hok := mxF_ok hu 25 0 q.2 hq
    have h11 := ftF_1 (u := ftU w ls c a) (l := frL w ls) (a := a) 25 0 q
    have h13 := mxF_0 (u := ftU w ls c a) (l := frL w ls) 25 0 q.2 h2.1 (by omega)
    have hth : (mxF (ftU w ls c a) (frL w ls) 25 0 q.2).1 ≤ 24 := mxF_le 25 0 q.2 h2.2 (by decide)
    have hq2 : mxO (ftF (ftU w ls c a) (frL w ls) a 25 0 q).2 := by rw [hmx]; exact hok.1
    have hq3 : 0 ≤ (ftF (ftU w ls c a) (frL w ls) a 25 0 q).2.2.1 := by rw [hmx]; exact hok.2 (Or.inl (by omega))
    obtain ⟨s2, e2, c2, r2⟩ := ih (a + 1) s1 (ftF (ftU w ls c a) (frL w ls) a 25 0 q) L1 B1 hq2 (Or.inr hq3) (by omega) (by omega) (by omega) (by rw [hmx]; omega) fu (by omega)
    refine ⟨s2, ?_, c2, (r0.n1.tr r1).tr r2⟩
    rw [F_X0_feint_37, ftG]
    show (if (25 : Int32) ≤ iI a then _ else _) = _
    rw [k_25, if_neg (by rw [iI_le (by omega) (by omega)]; omega), f4, f1, e0, bnd_s, k_0, e1, e2]
noncomputable def feintV (w : WR) (ls : List (List DC)) (c what : Int) : Int := @ite _ (isC w c ∧ (0 ≤ what ∧ what ≤ 5)) (Classical.propDecidable _) (ftZ what (ftG (ftU w ls c) (frL w ls) 25 0 (0, 0, -1, 1))) (-1)
theorem x_feint {D : Nat → Prop} {s : St} {w : WR} {ls : List (List DC)} (hC : C0 D s w ls) (hW : Wf w ls) {o : Option Nat} (hM : Mem D s o) (hR : Room s o) {c what : Int} (h1 : i32 c) (h2 : i32 what) : OpA D s ls o (F_X0_feint s (iI c) (iI what)) (lI (feintV w ls c what)) w := by
  have hm := hW.1
  unfold i32 at h1 h2
  unfold F_X0_feint feintV
  rw [e_X0_isCatcher hC.2.1 hm h1, bnd_s, K_m1, k_0, k_5]
  by_cases a1 : isC w c
  · have a3 : 0 ≤ c ∧ c < w 2 8 := a1
    rw [if_neg (by rw [bZ_i0]; exact fun z => z a1), e_X0_in s (by omega) (by omega) (by omega), bnd_s]
    by_cases a2 : 0 ≤ what ∧ what ≤ 5
    · obtain ⟨s1, A, e1, L1, F1, M1, G1⟩ := e_X0_looksAtAll hC hW hM hR
      obtain ⟨s2, e2, c2, b2, r2⟩ := e_X0_none L1.1.1
      obtain ⟨s3, e3, c3, r3⟩ := e_X0_feint_37 hW a3 a2 25 0 s2 (0, 0, -1, 1) (L1.go r2.n2 c2) b2 mxO_0 (Or.inl (by omega)) (by omega) (by omega) (by decide) (by decide) FU (FU_ge (by omega))
      rw [if_neg (by rw [bZ_i0]; exact fun z => z a2), if_pos ⟨a1, a2⟩, e1, bnd_s, e2, bnd_s, e3]
      exact ⟨s3, some A, rfl, c3, (M1.fr r2).fr r3, (G1.go r2.n2).go r3⟩
    · rw [if_pos (by rw [bZ_i0]; exact a2), if_neg (fun z => a2 z.2)]
      exact OpA.of hM hC Sm.rf
  · rw [if_pos (by rw [bZ_i0]; exact a1), if_neg (fun z => a1 z.1)]
    exact OpA.of hM hC Sm.rf
