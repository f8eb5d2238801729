set_option maxRecDepth 100000
/-! ===== the component: safest, a crowd, again, truly ===== -/
def nearW (cell : Int) : FL → Int
  | [] => 0
  | x :: r => (if x.1 ≠ -1 ∧ farZ x.1 cell ≤ 1 then x.2 else 0) + nearW cell r
theorem nearW_r {cell : Int} : ∀ {fl : FL}, (∀ x ∈ fl, 0 ≤ x.2 ∧ x.2 ≤ 9) → 0 ≤ nearW cell fl ∧ nearW cell fl ≤ sumW fl := by
  intro fl
  induction fl with
  | nil => intro _; exact ⟨Int.le_refl _, Int.le_refl _⟩
  | cons x r ih =>
    intro h
    have h1 := h x List.mem_cons_self
    have h2 := ih (fun y hy => h y (List.mem_cons_of_mem _ hy))
    rw [sumW, nearW]
    split <;> omega
theorem e_X0_near_2_4 {s : St} {fl : FL} (hF : FlE s 23 24 25 fl) {cell : Int} (hc : 0 ≤ cell ∧ cell ≤ 35) : ∀ (j i : Nat) (z : Int), fl.length = j + i → ∀ fu, j < fu → F_X0_near_2_4 fu s (iI cell) (iI z) (iI i) = some (iI (z + nearW cell (fl.drop i)), s) := by
  obtain ⟨f1, f2, f3, f4, f5, f6, f7, f8, f9⟩ := hF
  intro j
  induction j with
  | zero =>
    intro i z hi fu hfu
    obtain ⟨g, rfl⟩ : ∃ g, fu = g + 1 := ⟨fu - 1, by omega⟩
    rw [F_X0_near_2_4]
    show (if si s 23 2 ≤ iI i then _ else _) = _
    rw [f6, if_pos (by rw [iI_le (by omega) (by omega)]; omega), List.drop_eq_nil_of_le (by omega), nearW, Int.add_zero]
  | succ j ih =>
    intro i z hi fu hfu
    obtain ⟨g, rfl⟩ : ∃ g, fu = g + 1 := ⟨fu - 1, by omega⟩
    obtain ⟨x, hx, hd⟩ := drop_cons (l := fl) (i := i) (by omega)
    obtain ⟨q1, q2, q3, q4⟩ := f9 i x hx
    have h4 : iI (i : Int) + 1 = iI ((i + 1 : Nat) : Int) := by
      rw [k_1, iI_add]
      rfl
    rw [F_X0_near_2_4]
    show (if si s 23 2 ≤ iI i then _ else _) = _
    unfold F_X0_near_2_58
    rw [f6, if_neg (by rw [iI_le (by omega) (by omega)]; omega), inb_g (by omega), iI_nat (by omega), Int.toNat_natCast, q1, h4, k_m1, k_0, iI_add, hd, nearW]
    by_cases a : x.1 = -1
    · rw [if_pos (by rw [a]), if_neg (fun z => z.1 a), ih (i + 1) _ (by omega) g (by omega), Int.add_assoc]
    · have hfr := farZ_r (a := x.1) (b := cell) (by omega) hc
      rw [if_neg (by rw [iI_eq (by omega) (by omega)]; exact a), inb_g (by omega), e_X0_far s (by omega) hc, bnd_s, k_1, inb_g (by omega), q2, iI_add, nam_v]
      by_cases b : 1 < farZ x.1 cell
      · rw [if_pos (by rw [iI_lt (by omega) (by omega)]; exact b), if_neg (by omega), ih (i + 1) _ (by omega) g (by omega), Int.add_assoc]
      · rw [if_neg (by rw [iI_lt (by omega) (by omega)]; exact b), if_pos ⟨a, by omega⟩, ih (i + 1) _ (by omega) g (by omega), Int.add_assoc]
theorem e_X0_near_2 {s : St} {fl : FL} (hF : FlE s 23 24 25 fl) {cell : Int} (hc : 0 ≤ cell ∧ cell ≤ 35) : F_X0_near_2 s (iI cell) = some (iI (nearW cell fl), s) := by
  have hl : fl.length ≤ 9 := hF.2.2.2.2.2.2.2.1
  have := e_X0_near_2_4 hF hc fl.length 0 0 (by omega) FU (FU_ge (by omega))
  rw [Int.zero_add] at this
  exact this
noncomputable def sfF (w : WR) (ls : List (List DC)) (fl : FL) (c : Int) : Nat → Int → Int → Int
  | 0, _, b => b
  | n + 1, e, b => sfF w ls fl c n (e + 1) (@ite _ (canSP w ls (w 3) c e ∧ (b = -1 ∨ nearW e fl < nearW b fl)) (Classical.propDecidable _) e b)
noncomputable def sfZ (what : Int) (fl : FL) (b : Int) : Int := if b = -1 ∨ what = 0 then b else tellZ (nearW b fl) (sumW fl) (decide (what = 1))
theorem e_X0_safest_28 {D : Nat → Prop} {w : WR} {ls : List (List DC)} (hW : Wf w ls) {fl : FL} (hp : 0 < sumW fl) {c what : Int} (hc : 0 ≤ c ∧ c < w 2 8) (hw : 0 ≤ what ∧ what ≤ 2) : ∀ (n : Nat) (cell b : Int) (s : St), C0 D s w ls → FlE s 23 24 25 fl → 0 ≤ cell → 36 = n + cell → (-1 ≤ b ∧ b < cell) → ∀ fu, n < fu → Op D s ls (F_X0_safest_28 fu s (iI c) (iI what) (iI b) (iI cell)) (sfZ what fl (sfF w ls fl c n cell b)) w := by
  have hm := hW.1
  intro n
  induction n with
  | zero =>
    intro cell b s hC hF h0 hn hb fu hfu
    obtain ⟨fu, rfl⟩ : ∃ g, fu = g + 1 := ⟨fu - 1, by omega⟩
    have hs := hF.sum
    have hwr := nearW_r (cell := b) fun x hx => (hF.mem x hx).2
    have hr := tellZ_r (u := nearW b fl) (l := sumW fl) (up := decide (what = 1)) (by omega) (by omega)
    have hr2 : tellZ (nearW b fl) (sumW fl) (decide (what = 1)) ≤ 81 := by
      refine Int.le_trans hr.2 ?_
      split <;> omega
    rw [F_X0_safest_28, sfF]
    show Op D s ls (if (36 : Int32) ≤ iI cell then _ else _) _ w
    unfold F_X0_safest_112 sfZ
    rw [k_36, if_pos (by rw [iI_le (by omega) (by omega)]; omega), k_m1, k_0, k_1]
    by_cases a1 : b = -1
    · rw [if_pos (by rw [a1]), if_pos (Or.inl a1)]
      exact Op.ret hC
    · rw [if_neg (by rw [iI_eq (by omega) (by omega)]; exact a1)]
      by_cases a2 : what = 0
      · rw [if_pos (by rw [a2]), if_pos (Or.inr a2)]
        exact Op.ret hC
      · have k140 : ∀ z : Int32, z = iI (if what = 1 then 1 else 0) → Op D s ls (F_X0_safest_140 s z (si s 23 3).toInt64 (iI (nearW b fl)).toInt64) (tellZ (nearW b fl) (sumW fl) (decide (what = 1))) w := fun z hz => by
          unfold F_X0_safest_140
          rw [hF.2.2.2.2.2.2.1, iI_l (by omega), iI_l (by omega), e_tells_b s (by omega) (by omega) (what = 1) hz, bnd_s]
          show Op D s ls (some ((lI (tellZ (nearW b fl) (sumW fl) (decide (what = 1)))).toInt32, s)) _ _
          rw [lI_i (by omega)]
          exact Op.ret hC
        rw [if_neg (by rw [iI_eq (by omega) (by omega)]; exact a2), if_neg (fun z => z.elim a1 a2), e_X0_near_2 hF (by omega), bnd_s]
        by_cases a3 : what = 1
        · rw [if_pos (by rw [a3])]
          exact k140 _ (by rw [if_pos a3])
        · rw [if_neg (by rw [iI_eq (by omega) (by omega)]; exact a3)]
          exact k140 _ (by rw [if_neg a3])
  | succ n ih =>
    intro cell b s hC hF h0 hn hb fu hfu
    obtain ⟨fu, rfl⟩ : ∃ g, fu = g + 1 := ⟨fu - 1, by omega⟩
    have hwr := whoF_r (f := w 3) (z := cell) (w 2 8).toNat 0 (by omega)
    have f0 : ∀ g, Fr t28 s (wV s g) := fun g => Fr.wV
    have skip : ∀ s', ¬ (canSP w ls (w 3) c cell ∧ (b = -1 ∨ nearW cell fl < nearW b fl)) → C0 D s' w ls → FlE s' 23 24 25 fl → Sm s s' → Op D s ls (F_X0_safest_28 fu s' (iI c) (iI what) (iI b) (iI (cell + 1))) (sfZ what fl (sfF w ls fl c (n + 1) cell b)) w := fun s' hno hC' hF' hs' => by
      rw [sfF, if_neg hno]
      exact (ih (cell + 1) b s' hC' hF' (by omega) (by omega) (by omega) fu (by omega)).after hs'
    have take : ∀ s', (canSP w ls (w 3) c cell ∧ (b = -1 ∨ nearW cell fl < nearW b fl)) → C0 D s' w ls → FlE s' 23 24 25 fl → Sm s s' → Op D s ls (F_X0_safest_28 fu s' (iI c) (iI what) (iI cell) (iI (cell + 1))) (sfZ what fl (sfF w ls fl c (n + 1) cell b)) w := fun s' hyes hC' hF' hs' => by
      rw [sfF, if_pos hyes]
      exact (ih (cell + 1) cell s' hC' hF' (by omega) (by omega) (by omega) fu (by omega)).after hs'
    have go : whoZ (w 3) (w 2 8) cell = -1 ∨ whoZ (w 3) (w 2 8) cell = c → Op D s ls (F_X0_safest_62 (F_X0_safest_28 fu) s (iI c) (iI what) (iI b) (iI cell)) (sfZ what fl (sfF w ls fl c (n + 1) cell b)) w := fun hwho => by
      obtain ⟨g, e⟩ := e_X0_isBarred_2 hC hW (c := c) (cell := cell) (by omega) (by omega)
      have hF1 := hF.fr (f0 g) (by decide) (by decide) (by decide)
      unfold F_X0_safest_62
      rw [e, bnd_s, k_m1, k_0, k_1, iI_add]
      by_cases hbr : barC w ls c cell
      · rw [if_neg (by rw [bZ_i0]; exact fun z => z hbr)]
        exact skip _ (fun z => z.1.2 hbr) hC.wV hF1 Sm.wV
      · rw [if_pos (by rw [bZ_i0]; exact hbr)]
        by_cases a1 : b = -1
        · rw [if_pos (by rw [a1])]
          exact take _ ⟨⟨hwho, hbr⟩, Or.inl a1⟩ hC.wV hF1 Sm.wV
        · have n1 := nearW_r (cell := b) fun x hx => (hF.mem x hx).2
          have n2 := nearW_r (cell := cell) fun x hx => (hF.mem x hx).2
          have hs := hF.sum
          rw [if_neg (by rw [iI_eq (by omega) (by omega)]; exact a1), e_X0_near_2 hF1 (by omega), bnd_s, e_X0_near_2 hF1 (by omega), bnd_s]
          by_cases a2 : nearW b fl ≤ nearW cell fl
          · rw [if_pos (by rw [iI_le (by omega) (by omega)]; exact a2)]
            exact skip _ (fun z => z.2.elim a1 (by omega)) hC.wV hF1 Sm.wV
          · rw [if_neg (by rw [iI_le (by omega) (by omega)]; exact a2)]
            exact take _ ⟨⟨hwho, hbr⟩, Or.inr (by omega)⟩ hC.wV hF1 Sm.wV
    rw [F_X0_safest_28]
    show Op D s ls (if (36 : Int32) ≤ iI cell then _ else _) _ w
    rw [k_36, if_neg (by rw [iI_le (by omega) (by omega)]; omega), e_X0_whoIn hm hC.2.1.many (hC.1.1 3 (by decide)) (hC.2.1.cells hW) (by omega), bnd_s, k_m1]
    by_cases h3 : whoZ (w 3) (w 2 8) cell = -1
    · rw [if_pos (by rw [h3])]
      exact go (Or.inl h3)
    · rw [if_neg (by rw [iI_eq (by unfold whoZ; omega) (by omega)]; exact h3)]
      by_cases h4 : whoZ (w 3) (w 2 8) cell = c
      · rw [if_pos (by rw [h4])]
        exact go (Or.inr h4)
      · rw [if_neg (by rw [iI_eq (by unfold whoZ; omega) (by omega)]; exact h4), k_1, iI_add]
        exact skip s (fun z => z.1.1.elim h3 h4) hC hF Sm.rf
noncomputable def safestV (w : WR) (ls : List (List DC)) (c what : Int) : Int := @ite _ (isC w c ∧ (0 ≤ what ∧ what ≤ 2)) (Classical.propDecidable _) (sfZ what (nowL w ls) (sfF w ls (nowL w ls) c 36 0 (-1))) (-1)
theorem x_safest {D : Nat → Prop} {s : St} {w : WR} {ls : List (List DC)} (hC : C0 D s w ls) (hW : Wf w ls) {c what : Int} (h1 : i32 c) (h2 : i32 what) : Op D s ls (F_X0_safest s (iI c) (iI what)) (safestV w ls c what) w := by
  have hm := hW.1
  unfold i32 at h1 h2
  unfold F_X0_safest safestV
  rw [e_X0_isCatcher hC.2.1 hm h1, bnd_s, k_m1, k_0, k_2]
  by_cases a1 : isC w c
  · rw [if_neg (by rw [bZ_i0]; exact fun z => z a1), e_X0_in s (by omega) (by omega) (by omega), bnd_s]
    by_cases a2 : 0 ≤ what ∧ what ≤ 2
    · obtain ⟨s1, e1, hL, hF⟩ := e_X0_looks hC hW
      rw [if_neg (by rw [bZ_i0]; exact fun z => z a2), if_pos ⟨a1, a2⟩, e1, bnd_s]
      exact (e_X0_safest_28 hW laysL_pos a1 a2 36 0 (-1) s1 hL.1 hL.2.2.2 (by omega) (by omega) (by omega) FU (FU_ge (by omega))).after hF.smq
    · rw [if_pos (by rw [bZ_i0]; exact a2), if_neg (fun z => a2 z.2)]
      exact Op.ret hC
  · rw [if_pos (by rw [bZ_i0]; exact a1), if_neg (fun z => a1 z.1)]
    exact Op.ret hC
/-! a crowd -/
noncomputable def crU (w : WR) (ls : List (List DC)) (n : Int) : Int := 60 * sumW (nowL w ls) - chF w ls n (-1) (w 3) (nowL w ls)
noncomputable def crL (w : WR) (ls : List (List DC)) (_ : Int) : Int := 60 * sumW (nowL w ls)
theorem cr_mx {w : WR} {ls : List (List DC)} (hW : Wf w ls) : mxU (crU w ls) (crL w ls) := fun j => by
  have h1 := laysL_mem hW (f := w 8 0) (sd := w 8 1)
  have h2 := laysL_sum hW (f := w 8 0) (sd := w 8 1)
  have h3 := chF_r (w := w) (ls := ls) (n := j) (c := -1) (f := w 3) (fl := laysL w ls (w 8 0) (w 8 1)) fun x hx => (h1.2 x hx).2
  unfold crU crL nowL
  omega
noncomputable def crZ (what : Int) (q : Int × Int × Int) : Int := if what = 0 then q.1 else tellZ q.2.1 q.2.2 (decide (what = 1))
theorem e_X0_crowd_25 {D : Nat → Prop} {w : WR} {ls : List (List DC)} (hW : Wf w ls) {what : Int} (hw : 0 ≤ what ∧ what ≤ 2) : ∀ (n : Nat) (j : Int) (s : St) (q : Int × Int × Int), C0 D s w ls → GrE s w ls (w 2 8) → FlE s 23 24 25 (nowL w ls) → BsE s q.2 → mxO q → (0 < n ∨ 0 ≤ q.2.1) → 0 ≤ j → w 2 8 + 1 = n + j → (0 ≤ q.1 ∧ q.1 ≤ 6) → ∀ fu, n < fu → OpL D s ls (F_X0_crowd_25 fu s (iI what) (iI q.1) (iI j)) (crZ what (mxF (crU w ls) (crL w ls) n j q)) w := by
  have hm := hW.1
  intro n
  induction n with
  | zero =>
    intro j s q hC hG hF hB hq h0 hj hn h1 fu hfu
    obtain ⟨fu, rfl⟩ : ∃ g, fu = g + 1 := ⟨fu - 1, by omega⟩
    have hq1 : 0 ≤ q.2.1 ∧ q.2.1 ≤ 1000000 := ⟨h0.resolve_left (by omega), hq.1.2⟩
    have hq2 := hq.2
    have k114 : ∀ z : Int32, z = iI (if what = 1 then 1 else 0) → OpL D s ls (F_X0_crowd_114 s z (sl s 0 23) (sl s 0 22)) (tellZ q.2.1 q.2.2 (decide (what = 1))) w := fun z hz => by
      unfold F_X0_crowd_114
      rw [hB.1, hB.2, e_tells_b s (by omega) (by omega) (what = 1) hz, bnd_s]
      exact OpL.ret hC
    rw [F_X0_crowd_25, mxF]
    show OpL D s ls (if si s 2 8 < iI j then _ else _) _ w
    unfold crZ
    rw [hC.2.1.many, if_pos (by rw [iI_lt (by omega) (by omega)]; omega), k_0, k_1]
    by_cases a1 : what = 0
    · rw [if_pos (by rw [a1]), if_pos a1, iI_l (by omega)]
      exact OpL.ret hC
    · rw [if_neg (by rw [iI_eq (by omega) (by omega)]; exact a1), if_neg a1]
      by_cases a2 : what = 1
      · rw [if_pos (by rw [a2])]
        exact k114 _ (by rw [if_pos a2])
      · rw [if_neg (by rw [iI_eq (by omega) (by omega)]; exact a2)]
        exact k114 _ (by rw [if_neg a2])
  | succ n ih =>
    intro j s q hC hG hF hB hq h0 hj hn h1 fu hfu
    obtain ⟨fu, rfl⟩ : ∃ g, fu = g + 1 := ⟨fu - 1, by omega⟩
    have hu := cr_mx hW (ls := ls)
    have hj2 := hu j
    have hst := mxO.step hu hq (j := j)
    have C1 : C0 D (setI s 0 20 (iI j)) w ls := hC.scrK (hC.ok31 (by decide)) (by decide) (fun z => by
      have z : (20 : Int) = 0 ∨ (11 ≤ (20 : Int) ∧ (20 : Int) ≤ 15) ∨ (20 : Int) = 26 ∨ (20 : Int) = 27 := z
      omega)
    have f1 : Fr (fun x => x = 0) s (setI s 0 20 (iI j)) := Fr.set rfl
    have F1 := hF.fr f1 (by decide) (by decide) (by decide)
    have G1 := hG.fr f1 (by decide)
    have B1 : BsE (setI s 0 20 (iI j)) q.2 := hB
    have hGj : GrE (setI s 0 20 (iI j)) w ls j := fun c f c0 c1 f0 f2 => G1 c f c0 (by omega) f0 f2
    have hch := e_X0_chance C1.2.1 hW hGj (by omega) (by rw [si_set, if_pos rfl, if_pos rfl]) F1 (C1.1.1 3 (by decide)) (C1.2.1.cel hW) (c := -1) (Or.inl rfl)
    obtain ⟨s1, e1, c1, b1, r1⟩ := e_X0_isMore C1 B1 (u := crU w ls j) (l := crL w ls j) (by omega) (by omega) (by have := hq.1; omega) (by have := hq.2; omega)
    have F2 := F1.fr r1 (by decide) (by decide) (by decide)
    have G2 := G1.fr r1 (by decide)
    have sm : Sm s s1 := (Sm.set (by decide)).tr (r1.n2.smn)
    rw [F_X0_crowd_25]
    show OpL D s ls (if si s 2 8 < iI j then _ else _) _ w
    rw [hC.2.1.many, if_neg (by rw [iI_lt (by omega) (by omega)]; omega), nam_v, e_X4_lower F1, bnd_s, k_m1, hch, bnd_s, e_X4_lower F1, bnd_s, lI_sub]
    show OpL D s ls (bnd (F_X0_isMore (setI s 0 20 (iI j)) (lI (crU w ls j)) (lI (crL w ls j))) _) _ w
    rw [e1, bnd_s, k_0, k_1, iI_add, mxF]
    by_cases hmm : q.2.1 * crL w ls j < crU w ls j * q.2.2
    · rw [if_pos hmm] at b1 ⊢
      rw [if_neg (by rw [bZ_i0]; exact fun z => z hmm)]
      exact (ih (j + 1) s1 (j, crU w ls j, crL w ls j) c1 G2 F2 b1 (by have := hst.1; rw [if_pos hmm] at this; exact this) (Or.inr (by have := hst.2; rw [if_pos hmm] at this; exact this)) (by omega) (by omega) (show 0 ≤ j ∧ j ≤ 6 by omega) fu (by omega)).after sm
    · rw [if_neg hmm] at b1 ⊢
      rw [if_pos (by rw [bZ_i0]; exact hmm)]
      exact (ih (j + 1) s1 q c1 G2 F2 b1 hq (Or.inr (by have := hst.2; rw [if_neg hmm] at this; exact this)) (by omega) (by omega) h1 fu (by omega)).after sm
noncomputable def crowdV (w : WR) (ls : List (List DC)) (what : Int) : Int := if 0 ≤ what ∧ what ≤ 2 then crZ what (mxF (crU w ls) (crL w ls) (w 2 8 + 1).toNat 0 (0, -1, 1)) else -1
theorem x_crowd {D : Nat → Prop} {s : St} {w : WR} {ls : List (List DC)} (hC : C0 D s w ls) (hW : Wf w ls) {what : Int} (h2 : i32 what) : OpL D s ls (F_X0_crowd s (iI what)) (crowdV w ls what) w := by
  have hm := hW.1
  unfold i32 at h2
  unfold F_X0_crowd crowdV
  rw [K_m1, k_0, k_2, e_X0_in s (by omega) (by omega) (by omega), bnd_s]
  by_cases a2 : 0 ≤ what ∧ what ≤ 2
  · obtain ⟨s1, e1, hL, hF⟩ := e_X0_looks hC hW
    obtain ⟨s2, e2, c2, b2, r2⟩ := e_X0_none hL.1
    rw [if_neg (by rw [bZ_i0]; exact fun z => z a2), if_pos a2, e1, bnd_s, e2, bnd_s]
    exact (e_X0_crowd_25 hW a2 (w 2 8 + 1).toNat 0 s2 (0, -1, 1) c2 (hL.2.2.1.fr r2 (by decide)) (hL.2.2.2.fr r2 (by decide) (by decide) (by decide)) b2 mxO_0 (Or.inl (by omega)) (by omega) (by omega) (by decide) FU (FU_ge (by omega))).after (hF.smq.tr r2.n2.smn)
  · rw [if_pos (by rw [bZ_i0]; exact a2), if_neg a2]
    exact OpL.ret hC
/-! again, truly -/
noncomputable def nobZ (w : WR) (ls : List (List DC)) : Int := chF w ls (w 2 8) (-1) (w 3) (nowL w ls)
noncomputable def againV (w : WR) (ls : List (List DC)) (what : Int) : Int := if 0 ≤ what ∧ what ≤ 1 then tellZ (nobZ w ls * nobZ w ls) (60 * sumW (nowL w ls) * (60 * sumW (nowL w ls))) (decide (what = 0)) else -1
theorem x_again {D : Nat → Prop} {s : St} {w : WR} {ls : List (List DC)} (hC : C0 D s w ls) (hW : Wf w ls) {what : Int} (h2 : i32 what) : OpL D s ls (F_X0_again s (iI what)) (againV w ls what) w := by
  unfold i32 at h2
  unfold F_X0_again againV
  rw [k_m1, K_m1, k_0, k_1, e_X0_in s (by omega) (by omega) (by omega), bnd_s]
  by_cases a2 : 0 ≤ what ∧ what ≤ 1
  · obtain ⟨s1, e1, hL, hF⟩ := e_X0_looks hC hW
    have hs := laysL_sum hW (f := w 8 0) (sd := w 8 1)
    have hch := hL.2.2.2.cO (w := w) (ls := ls) (n := w 2 8) (c := -1) (f := w 3)
    have hch2 : 0 ≤ nobZ w ls ∧ nobZ w ls ≤ 5000 := by unfold nobZ nowL; omega
    have hl2 : 1 ≤ 60 * sumW (nowL w ls) ∧ 60 * sumW (nowL w ls) ≤ 5000 := by unfold nowL; omega
    have m1 := mul_rng (a := nobZ w ls) (b := nobZ w ls) (by omega) (by omega)
    have m2 := mul_rng (a := 60 * sumW (nowL w ls)) (b := 60 * sumW (nowL w ls)) (by omega) (by omega)
    have m3 : 0 ≤ nobZ w ls * nobZ w ls := Int.mul_nonneg hch2.1 hch2.1
    have m4 : 0 < 60 * sumW (nowL w ls) * (60 * sumW (nowL w ls)) := Int.mul_pos (by omega) (by omega)
    have k61 : ∀ z : Int32, z = iI (if what = 0 then 1 else 0) → OpL D s ls (F_X0_again_61 s1 z (lI (60 * sumW (nowL w ls) * (60 * sumW (nowL w ls)))) (lI (nobZ w ls * nobZ w ls))) (tellZ (nobZ w ls * nobZ w ls) (60 * sumW (nowL w ls) * (60 * sumW (nowL w ls))) (decide (what = 0))) w := fun z hz => by
      unfold F_X0_again_61
      rw [e_tells_b s1 (by omega) (by omega) (what = 0) hz, bnd_s]
      exact (OpL.ret hL.1).after hF.smq
    rw [if_neg (by rw [bZ_i0]; exact fun z => z a2), if_pos a2, e1, bnd_s, hL.cw.chance3 hW hL.2.2.2 (Or.inl rfl), bnd_s, e_X4_lower hL.2.2.2, bnd_s, e_X4_lower hL.2.2.2, bnd_s, lI_mul, lI_mul]
    by_cases b : what = 0
    · rw [if_pos (by rw [b])]
      exact k61 _ (by rw [if_pos b])
    · rw [if_neg (by rw [iI_eq (by omega) (by omega)]; exact b)]
      exact k61 _ (by rw [if_neg b])
  · rw [if_pos (by rw [bZ_i0]; exact a2), if_neg a2]
    exact OpL.ret hC
theorem wedZ_r {w : WR} {ls : List (List DC)} {c k : Int} : 0 ≤ wedZ w ls c k ∧ wedZ w ls c k ≤ 100 := by
  unfold wedZ
  split
  · decide
  · split
    · decide
    · exact nearZ_r (by decide)
noncomputable def truF (w : WR) (ls : List (List DC)) : Nat → Int → Int → Int
  | 0, _, z => z
  | n + 1, c, z => truF w ls n (c + 1) (z + chF w ls (w 2 8) c (w 3) (nowL w ls) * wedZ w ls c 1)
theorem e_X0_truly_22 {D : Nat → Prop} {w : WR} {ls : List (List DC)} (hW : Wf w ls) {what : Int} (hw : 0 ≤ what ∧ what ≤ 1) : ∀ (n : Nat) (c z : Int) (s : St), Cw D s w ls → FlE s 23 24 25 (nowL w ls) → 0 ≤ c → w 2 8 = n + c → (0 ≤ z ∧ z ≤ 1000000000 * c) → ∀ fu, n < fu → OpL D s ls (F_X0_truly_22 fu s (iI what) (lI z) (iI c)) (tellZ (truF w ls n c z) (100 * (60 * sumW (nowL w ls))) (decide (what = 0))) w := by
  have hm := hW.1
  intro n
  induction n with
  | zero =>
    intro c z s hC hF h0 hn hz fu hfu
    obtain ⟨fu, rfl⟩ : ∃ g, fu = g + 1 := ⟨fu - 1, by omega⟩
    have hs := laysL_sum hW (f := w 8 0) (sd := w 8 1)
    have hs2 : 1 ≤ sumW (nowL w ls) ∧ sumW (nowL w ls) ≤ 81 := hs
    have k90 : ∀ y : Int32, y = iI (if what = 0 then 1 else 0) → OpL D s ls (F_X0_truly_90 s y (lI (100 * (60 * sumW (nowL w ls)))) (lI z)) (tellZ z (100 * (60 * sumW (nowL w ls))) (decide (what = 0))) w := fun y hy => by
      unfold F_X0_truly_90
      rw [e_tells_b s (by omega) (by omega) (what = 0) hy, bnd_s]
      exact OpL.ret hC.1
    rw [F_X0_truly_22, truF]
    show OpL D s ls (if si s 2 8 ≤ iI c then _ else _) _ w
    rw [hC.1.2.1.many, if_pos (by rw [iI_le (by omega) (by omega)]; omega), e_X4_lower hF, bnd_s, K_100, lI_mul, k_0, k_1]
    by_cases b : what = 0
    · rw [if_pos (by rw [b])]
      exact k90 _ (by rw [if_pos b])
    · rw [if_neg (by rw [iI_eq (by omega) (by omega)]; exact b)]
      exact k90 _ (by rw [if_neg b])
  | succ n ih =>
    intro c z s hC hF h0 hn hz fu hfu
    obtain ⟨fu, rfl⟩ : ∃ g, fu = g + 1 := ⟨fu - 1, by omega⟩
    have hch := hF.cO (w := w) (ls := ls) (n := w 2 8) (c := c) (f := w 3)
    have hs := hF.sum
    have hwr := wedZ_r (w := w) (ls := ls) (c := c) (k := 1)
    obtain ⟨g, e⟩ := e_X0_wed hC.1 hW (c := c) (far := 1) (by omega) (by omega)
    have m1 : 0 ≤ chF w ls (w 2 8) c (w 3) (nowL w ls) * wedZ w ls c 1 := Int.mul_nonneg hch.1 hwr.1
    have m2 : chF w ls (w 2 8) c (w 3) (nowL w ls) * wedZ w ls c 1 ≤ chF w ls (w 2 8) c (w 3) (nowL w ls) * 100 := Int.mul_le_mul_of_nonneg_left hwr.2 hch.1
    have f0 : Fr t28 s (wV s g) := Fr.wV
    rw [F_X0_truly_22, truF]
    show OpL D s ls (if si s 2 8 ≤ iI c then _ else _) _ w
    rw [hC.1.2.1.many, if_neg (by rw [iI_le (by omega) (by omega)]; omega), hC.chance3 hW hF (Or.inr ⟨h0, by omega⟩), bnd_s, k_1, e, bnd_s, iI_l (by omega), lI_mul, lI_add, iI_add]
    exact (ih (c + 1) _ _ hC.wV (hF.fr f0 (by decide) (by decide) (by decide)) (by omega) (by omega) (by omega) fu (by omega)).after Sm.wV
noncomputable def trulyV (w : WR) (ls : List (List DC)) (what : Int) : Int := if 0 ≤ what ∧ what ≤ 1 then tellZ (truF w ls (w 2 8).toNat 0 0) (100 * (60 * sumW (nowL w ls))) (decide (what = 0)) else -1
theorem x_truly {D : Nat → Prop} {s : St} {w : WR} {ls : List (List DC)} (hC : C0 D s w ls) (hW : Wf w ls) {what : Int} (h2 : i32 what) : OpL D s ls (F_X0_truly s (iI what)) (trulyV w ls what) w := by
  have hm := hW.1
  unfold i32 at h2
  unfold F_X0_truly trulyV
  rw [K_m1, k_0, k_1, e_X0_in s (by omega) (by omega) (by omega), bnd_s]
  by_cases a2 : 0 ≤ what ∧ what ≤ 1
  · obtain ⟨s1, e1, hL, hF⟩ := e_X0_looks hC hW
    rw [if_neg (by rw [bZ_i0]; exact fun z => z a2), if_pos a2, e1, bnd_s, K_0]
    exact (e_X0_truly_22 hW a2 (w 2 8).toNat 0 0 s1 hL.cw hL.2.2.2 (by omega) (by omega) (by omega) FU (FU_ge (by omega))).after hF.smq
  · rw [if_pos (by rw [bZ_i0]; exact a2), if_neg a2]
    exact OpL.ret hC
