set_option maxRecDepth 100000
/-! ===== the component: to stand, to rest ===== -/
/-- the paper's cells -/
def PpE (s : St) (p : Int → Int) : Prop := ∀ c, 0 ≤ c → c < 6 → si s 28 c.toNat = iI (p c) ∧ 0 ≤ p c ∧ p c ≤ 35
theorem GrE.fr {S : Nat → Prop} {s s' : St} {w : WR} {ls : List (List DC)} {n : Int} (h : GrE s w ls n) (f : Fr S s s') (h27 : ¬ S 27) : GrE s' w ls n := by
  unfold GrE
  rw [f.2.2.2.1 27 h27]
  exact h
/-- what chances ask -/
def Cw (D : Nat → Prop) (s : St) (w : WR) (ls : List (List DC)) : Prop := C0 D s w ls ∧ si s 0 20 = iI (w 2 8) ∧ GrE s w ls (w 2 8)
theorem Lk.cw {D : Nat → Prop} {s : St} {w : WR} {ls : List (List DC)} (h : Lk D s w ls) : Cw D s w ls := ⟨h.1, h.2.1, h.2.2.1⟩
theorem Cw.wV {D : Nat → Prop} {s : St} {w : WR} {ls : List (List DC)} {g : Nat → Int64} (h : Cw D s w ls) : Cw D (wV s g) w ls := ⟨h.1.wV, h.2.1, h.2.2⟩
theorem Cw.pp {D : Nat → Prop} {s : St} {w : WR} {ls : List (List DC)} {k : Nat} {v : Int32} (h : Cw D s w ls) : Cw D (setI s 28 k v) w ls := ⟨h.1.scr (h.1.scr31 (by omega)), h.2.1, h.2.2⟩
def fup (p : Int → Int) (c v : Int) : Int → Int := fun k => if k = c then v else p k
theorem fup_s {p : Int → Int} {c v : Int} : fup p c v c = v := if_pos rfl
theorem fup_id {p : Int → Int} {c : Int} : fup p c (p c) = p := by
  funext k
  unfold fup
  split
  · rename_i h; rw [h]
  · rfl
theorem fup_2 {p : Int → Int} {c u v : Int} : fup (fup p c u) c v = fup p c v := by
  funext k
  unfold fup
  split <;> rfl
theorem PpE.set {s : St} {p : Int → Int} (h : PpE s p) {c v : Int} (hc : 0 ≤ c) (hv : 0 ≤ v ∧ v ≤ 35) : PpE (setI s 28 c.toNat (iI v)) (fup p c v) := by
  intro k k0 k6
  rw [si_set, if_pos rfl]
  unfold fup
  by_cases e : k = c
  · rw [if_pos (by rw [e]), if_pos e]
    exact ⟨rfl, hv⟩
  · rw [if_neg (by omega), if_neg e]
    exact h k k0 k6
theorem PpE.wk {s : St} {p : Int → Int} (h : PpE s p) : ∀ c, 0 ≤ c → c < 6 → si s 28 c.toNat = iI (p c) ∧ -1 ≤ p c ∧ p c ≤ 35 := fun c h0 h6 => ⟨(h c h0 h6).1, by have := h c h0 h6; omega⟩
theorem Cw.chance {D : Nat → Prop} {s : St} {w : WR} {ls : List (List DC)} (h : Cw D s w ls) (hW : Wf w ls) {a b c0 : Nat} {fl : FL} (hF : FlE s a b c0 fl) {p : Int → Int} (hP : PpE s p) {c : Int} (hc : c = -1 ∨ (0 ≤ c ∧ c < w 2 8)) : F_X0_chance s (iI c) (some a) (some 28) = some (lI (chF w ls (w 2 8) c p fl), s) :=
  e_X0_chance h.1.2.1 hW h.2.2 hW.1 h.2.1 hF (h.1.1.1 28 (by decide)) hP hc
theorem Cw.chance3 {D : Nat → Prop} {s : St} {w : WR} {ls : List (List DC)} (h : Cw D s w ls) (hW : Wf w ls) {a b c0 : Nat} {fl : FL} (hF : FlE s a b c0 fl) {c : Int} (hc : c = -1 ∨ (0 ≤ c ∧ c < w 2 8)) : F_X0_chance s (iI c) (some a) (some 3) = some (lI (chF w ls (w 2 8) c (w 3) fl), s) :=
  e_X0_chance h.1.2.1 hW h.2.2 hW.1 h.2.1 hF (h.1.1.1 3 (by decide)) (h.1.2.1.cel hW) hc
def canSP (w : WR) (ls : List (List DC)) (p : Int → Int) (c cell : Int) : Prop := (whoZ p (w 2 8) cell = -1 ∨ whoZ p (w 2 8) cell = c) ∧ ¬ barC w ls c cell
/-- the best cell so far and its chance, from a cell on, n cells -/
noncomputable def bcF (w : WR) (ls : List (List DC)) (fl : FL) (p : Int → Int) (c : Int) : Nat → Int → Int × Int → Int × Int
  | 0, _, q => q
  | n + 1, e, q => bcF w ls fl p c n (e + 1) (@ite _ (canSP w ls p c e ∧ q.2 < chF w ls (w 2 8) c (fup p c e) fl) (Classical.propDecidable _) (e, chF w ls (w 2 8) c (fup p c e) fl) q)
noncomputable def bestC (w : WR) (ls : List (List DC)) (fl : FL) (p : Int → Int) (c : Int) : Int × Int := bcF w ls fl p c 36 0 (-1, -1)
abbrev t28 (x : Nat) : Prop := x = 28
theorem e_X0_bestCell_17 {D : Nat → Prop} {w : WR} {ls : List (List DC)} (hW : Wf w ls) {fl : FL} {p : Int → Int} {c : Int} (hc : 0 ≤ c ∧ c < w 2 8) : ∀ (n : Nat) (cell : Int) (s : St) (q : Int × Int), Cw D s w ls → FlE s 23 24 25 fl → PpE s p → 0 ≤ cell → 36 = n + cell → (-1 ≤ q.1 ∧ q.1 < cell) → (-1 ≤ q.2 ∧ q.2 ≤ 60 * sumW fl) → ∀ fu, n < fu → ∃ s1, F_X0_bestCell_17 fu s (iI c) (iI (p c)) (iI q.1) (lI q.2) (iI cell) = some (iI (bcF w ls fl p c n cell q).1, s1) ∧ Cw D s1 w ls ∧ FlE s1 23 24 25 fl ∧ PpE s1 p ∧ Fr t28 s s1 ∧ (-1 ≤ (bcF w ls fl p c n cell q).1 ∧ (bcF w ls fl p c n cell q).1 ≤ 35) := by
  have hm := hW.1
  intro n
  induction n with
  | zero =>
    intro cell s q hC hF hP h0 hn h1 h2 fu hfu
    obtain ⟨g, rfl⟩ : ∃ g, fu = g + 1 := ⟨fu - 1, by omega⟩
    refine ⟨s, ?_, hC, hF, hP, Fr.rf, ?_⟩
    · rw [F_X0_bestCell_17]
      show (if (36 : Int32) ≤ iI cell then _ else _) = _
      rw [k_36, if_pos (by rw [iI_le (by omega) (by omega)]; omega)]
      rfl
    · show -1 ≤ q.1 ∧ q.1 ≤ 35
      omega
  | succ n ih =>
    intro cell s q hC hF hP h0 hn h1 h2 fu hfu
    obtain ⟨fu, rfl⟩ : ∃ g, fu = g + 1 := ⟨fu - 1, by omega⟩
    have hs := hF.sum
    have hpc := hP c hc.1 (by omega)
    have skip : ∀ s', ¬ (canSP w ls p c cell ∧ q.2 < chF w ls (w 2 8) c (fup p c cell) fl) → Cw D s' w ls → FlE s' 23 24 25 fl → PpE s' p → Fr t28 s s' → ∃ s1, F_X0_bestCell_17 fu s' (iI c) (iI (p c)) (iI q.1) (lI q.2) (iI cell + 1) = some (iI (bcF w ls fl p c (n + 1) cell q).1, s1) ∧ Cw D s1 w ls ∧ FlE s1 23 24 25 fl ∧ PpE s1 p ∧ Fr t28 s s1 ∧ (-1 ≤ (bcF w ls fl p c (n + 1) cell q).1 ∧ (bcF w ls fl p c (n + 1) cell q).1 ≤ 35) := fun s' hno hC' hF' hP' hr' => by
      obtain ⟨s1, e1, c1, F1, P1, r1, b1⟩ := ih (cell + 1) s' q hC' hF' hP' (by omega) (by omega) (by omega) h2 fu (by omega)
      rw [k_1, iI_add, bcF, if_neg hno]
      exact ⟨s1, e1, c1, F1, P1, hr'.tr r1, b1⟩
    have go : whoZ p (w 2 8) cell = -1 ∨ whoZ p (w 2 8) cell = c → ∃ s1, F_X0_bestCell_48 (F_X0_bestCell_17 fu) s (iI c) (iI (p c)) (iI q.1) (lI q.2) (iI cell) = some (iI (bcF w ls fl p c (n + 1) cell q).1, s1) ∧ Cw D s1 w ls ∧ FlE s1 23 24 25 fl ∧ PpE s1 p ∧ Fr t28 s s1 ∧ (-1 ≤ (bcF w ls fl p c (n + 1) cell q).1 ∧ (bcF w ls fl p c (n + 1) cell q).1 ≤ 35) := fun hwho => by
      obtain ⟨g, e⟩ := e_X0_isBarred_2 hC.1 hW (c := c) (cell := cell) (by omega) (by omega)
      have f0 : Fr t28 s (wV s g) := Fr.wV
      unfold F_X0_bestCell_48
      rw [e, bnd_s, k_0]
      by_cases hb : barC w ls c cell
      · rw [if_neg (by rw [bZ_i0]; exact fun z => z hb)]
        exact skip _ (fun z => z.1.2 hb) hC.wV (hF.fr f0 (by decide) (by decide) (by decide)) hP f0
      · rw [if_pos (by rw [bZ_i0]; exact hb)]
        have hC1 := (hC.wV (g := g)).pp (k := c.toNat) (v := iI cell)
        have f1 : Fr t28 s (setI (wV s g) 28 c.toNat (iI cell)) := f0.tr (Fr.set rfl)
        have hF1 := hF.fr f1 (by decide) (by decide) (by decide)
        have hP1 : PpE (setI (wV s g) 28 c.toNat (iI cell)) (fup p c cell) := PpE.set (s := wV s g) hP hc.1 (by omega)
        have hC2 := hC1.pp (k := c.toNat) (v := iI (p c))
        have f2 : Fr t28 s (setI (setI (wV s g) 28 c.toNat (iI cell)) 28 c.toNat (iI (p c))) := f1.tr (Fr.set rfl)
        have hF2 := hF.fr f2 (by decide) (by decide) (by decide)
        have hP2 := hP1.set (v := p c) hc.1 hpc.2
        rw [fup_2, fup_id] at hP2
        have hch := hF.cO (w := w) (ls := ls) (n := w 2 8) (c := c) (f := fup p c cell)
        rw [inb_g (by omega), nam_v, iI_nat (by omega), hC1.chance hW hF1 hP1 (Or.inr hc), bnd_s, inb_g (by omega), nam_v]
        by_cases hq : q.2 < chF w ls (w 2 8) c (fup p c cell) fl
        · rw [if_pos (by rw [lI_lt (by omega) (by omega)]; exact hq)]
          obtain ⟨s1, e1, c1, F1, P1, r1, b1⟩ := ih (cell + 1) _ (cell, chF w ls (w 2 8) c (fup p c cell) fl) hC2 hF2 hP2 (by omega) (by omega) (show -1 ≤ cell ∧ cell < cell + 1 by omega) (show -1 ≤ chF w ls (w 2 8) c (fup p c cell) fl ∧ _ by omega) fu (by omega)
          rw [k_1, iI_add, bcF, if_pos ⟨⟨hwho, hb⟩, hq⟩]
          exact ⟨s1, e1, c1, F1, P1, f2.tr r1, b1⟩
        · rw [if_neg (by rw [lI_lt (by omega) (by omega)]; exact hq)]
          exact skip _ (fun z => hq z.2) hC2 hF2 hP2 f2
    have hwr := whoF_r (f := p) (z := cell) (w 2 8).toNat 0 (by omega)
    rw [F_X0_bestCell_17]
    show ∃ s1, (if (36 : Int32) ≤ iI cell then _ else _) = _ ∧ _
    rw [k_36, if_neg (by rw [iI_le (by omega) (by omega)]; omega), e_X0_whoIn hm hC.1.2.1.many (hC.1.1.1 28 (by decide)) hP.wk (by omega), bnd_s, k_m1]
    by_cases h3 : whoZ p (w 2 8) cell = -1
    · rw [if_pos (by rw [h3])]
      exact go (Or.inl h3)
    · rw [if_neg (by rw [iI_eq (by unfold whoZ; omega) (by omega)]; exact h3)]
      by_cases h4 : whoZ p (w 2 8) cell = c
      · rw [if_pos (by rw [h4])]
        exact go (Or.inr h4)
      · rw [if_neg (by rw [iI_eq (by unfold whoZ; omega) (by omega)]; exact h4)]
        exact skip s (fun z => z.1.1.elim h3 h4) hC hF hP Fr.rf
theorem e_X0_bestCell {D : Nat → Prop} {s : St} {w : WR} {ls : List (List DC)} (hC : Cw D s w ls) (hW : Wf w ls) {fl : FL} (hF : FlE s 23 24 25 fl) {p : Int → Int} (hP : PpE s p) {c : Int} (hc : 0 ≤ c ∧ c < w 2 8) : ∃ s1, F_X0_bestCell s (iI c) = some (iI (bestC w ls fl p c).1, s1) ∧ Cw D s1 w ls ∧ FlE s1 23 24 25 fl ∧ PpE s1 p ∧ Fr t28 s s1 ∧ (-1 ≤ (bestC w ls fl p c).1 ∧ (bestC w ls fl p c).1 ≤ 35) := by
  have hm := hW.1
  have hs := hF.sum
  unfold F_X0_bestCell
  rw [inb_g (by omega), iI_nat (by omega), (hP c hc.1 (by omega)).1, k_m1, K_m1, k_0]
  exact e_X0_bestCell_17 hW hc 36 0 s (-1, -1) hC hF hP (by omega) (by omega) (by decide) (show (-1 : Int) ≤ -1 ∧ (-1 : Int) ≤ _ by omega) FU (FU_ge (by omega))
theorem e_X0_copies {D : Nat → Prop} {s : St} {w : WR} {ls : List (List DC)} (hC : C0 D s w ls) (hW : Wf w ls) : ∃ s1, F_X0_copies s = some ((), s1) ∧ C0 D s1 w ls ∧ PpE s1 (w 3) ∧ Fr t28 s s1 := by
  obtain ⟨h1, h2, ⟨b', c', f', hL, hE⟩, hD⟩ := hC
  have hk : Kp D s (cpyI s 3 0 28 0 6) := fun x hx => ⟨rfl, by
    have e : x ≠ 28 := fun z => by have := hD x hx; omega
    rw [si_cpy, if_neg e], rfl, rfl⟩
  refine ⟨cpyI s 3 0 28 0 6, ?_, ⟨h1.same rfl rfl, ?_, ⟨b', c', f', ⟨hL.1, hL.2.1, hL.2.2.1, hL.2.2.2.1, hL.2.2.2.2.1, ?_, hL.2.2.2.2.2.2⟩, fun i x hx => (hE i x hx).go hk⟩, hD⟩, ?_, ?_⟩
  · unfold F_X0_copies
    rw [k_0, k_6, gd_ok (okC_t (by omega) (by omega) (by omega) (by omega) (by omega)), nam_v]
    rfl
  · intro r k k0 hr
    rw [si_cpy, if_neg (fun z => by rw [z] at hr; exact hr)]
    exact h2 r k k0 hr
  · rw [si_cpy, if_neg (by decide)]
    exact hL.2.2.2.2.2.1
  · intro k k0 k6
    have := h2.cel hW k k0 k6
    rw [si_cpy, if_pos rfl]
    unfold va_cpy
    rw [if_pos (by omega), show 0 + (k.toNat - 0) = k.toNat by omega]
    exact this
  · refine ⟨rfl, rfl, ⟨rfl, rfl, rfl, rfl⟩, fun x hx => ?_, fun _ _ _ => rfl⟩
    rw [si_cpy, if_neg hx]
theorem Lk.copies {D : Nat → Prop} {s s1 : St} {w : WR} {ls : List (List DC)} (h : Lk D s w ls) (c1 : C0 D s1 w ls) (r1 : Fr t28 s s1) : Cw D s1 w ls ∧ FlE s1 23 24 25 (nowL w ls) :=
  ⟨⟨c1, by rw [r1.2.2.2.1 0 (by decide)]; exact h.2.1, h.2.2.1.fr r1 (by decide)⟩, h.2.2.2.fr r1 (by decide) (by decide) (by decide)⟩
theorem Fr.smt {s s' : St} (h : Fr t28 s s') : Sm s s' := h.sm fun b hb => by
  have : b = 28 := hb
  omega
noncomputable def standV (w : WR) (ls : List (List DC)) (c what : Int) : Int :=
  @ite _ (isC w c ∧ (0 ≤ what ∧ what ≤ 2)) (Classical.propDecidable _)
    (if (bestC w ls (nowL w ls) (w 3) c).1 = -1 ∨ what = 0 then (bestC w ls (nowL w ls) (w 3) c).1
     else tellZ (chF w ls (w 2 8) c (fup (w 3) c (bestC w ls (nowL w ls) (w 3) c).1) (nowL w ls)) (60 * sumW (nowL w ls)) (decide (what = 1))) (-1)
theorem x_stand {D : Nat → Prop} {s : St} {w : WR} {ls : List (List DC)} (hC : C0 D s w ls) (hW : Wf w ls) {c what : Int} (h1 : i32 c) (h2 : i32 what) : OpL D s ls (F_X0_stand s (iI c) (iI what)) (standV w ls c what) w := by
  have hm := hW.1
  unfold i32 at h1 h2
  unfold F_X0_stand standV
  rw [e_X0_isCatcher hC.2.1 hm h1, bnd_s, k_m1, K_m1, k_0, k_1, k_2]
  by_cases a1 : isC w c
  · have a3 : 0 ≤ c ∧ c < w 2 8 := a1
    rw [if_neg (by rw [bZ_i0]; exact fun z => z a1), e_X0_in s (by omega) (by omega) (by omega), bnd_s]
    by_cases a2 : 0 ≤ what ∧ what ≤ 2
    · obtain ⟨s1, e1, hL, hF⟩ := e_X0_looks hC hW
      obtain ⟨s2, e2, c2, P2, r2⟩ := e_X0_copies hL.1 hW
      obtain ⟨w2, F2⟩ := hL.copies c2 r2
      obtain ⟨s3, e3, w3, F3, P3, r3, b3⟩ := e_X0_bestCell w2 hW F2 P2 a3
      have hp := laysL_pos (w := w) (ls := ls) (f := w 8 0) (sd := w 8 1)
      have hs := F3.sum
      have sm3 : Sm s s3 := (hF.smq.tr r2.smt).tr r3.smt
      have ret : OpL D s ls (F_X0_stand_44 s3 (iI (bestC w ls (nowL w ls) (w 3) c).1)) (bestC w ls (nowL w ls) (w 3) c).1 w := by
        unfold F_X0_stand_44
        rw [iI_l (by omega)]
        exact (OpL.ret w3.1).after sm3
      rw [if_neg (by rw [bZ_i0]; exact fun z => z a2), if_pos ⟨a1, a2⟩, e1, bnd_s, e2, bnd_s, e3, bnd_s]
      by_cases b1 : (bestC w ls (nowL w ls) (w 3) c).1 = -1
      · rw [if_pos (by rw [b1]), if_pos (Or.inl b1)]
        exact ret
      · rw [if_neg (by rw [iI_eq (by omega) (by omega)]; exact b1)]
        by_cases b2 : what = 0
        · rw [if_pos (by rw [b2]), if_pos (Or.inr b2)]
          exact ret
        · have w4 := w3.pp (k := c.toNat) (v := iI (bestC w ls (nowL w ls) (w 3) c).1)
          have r4 : Fr t28 s3 (setI s3 28 c.toNat (iI (bestC w ls (nowL w ls) (w 3) c).1)) := Fr.set rfl
          have F4 := F3.fr r4 (by decide) (by decide) (by decide)
          have P4 := P3.set (v := (bestC w ls (nowL w ls) (w 3) c).1) a3.1 (by omega)
          have hch := F4.cO (w := w) (ls := ls) (n := w 2 8) (c := c) (f := fup (w 3) c (bestC w ls (nowL w ls) (w 3) c).1)
          have k84 : ∀ z : Int32, z = iI (if what = 1 then 1 else 0) → OpL D s ls (F_X0_stand_84 (setI s3 28 c.toNat (iI (bestC w ls (nowL w ls) (w 3) c).1)) z (lI (60 * sumW (nowL w ls))) (lI (chF w ls (w 2 8) c (fup (w 3) c (bestC w ls (nowL w ls) (w 3) c).1) (nowL w ls)))) (tellZ (chF w ls (w 2 8) c (fup (w 3) c (bestC w ls (nowL w ls) (w 3) c).1) (nowL w ls)) (60 * sumW (nowL w ls)) (decide (what = 1))) w := fun z hz => by
            unfold F_X0_stand_84
            rw [e_tells_b _ (by omega) (by unfold nowL at *; omega) (what = 1) hz, bnd_s]
            exact (OpL.ret w4.1).after (sm3.tr r4.smt)
          rw [if_neg (by rw [iI_eq (by omega) (by omega)]; exact b2), if_neg (fun z => z.elim b1 b2), inb_g (by omega), nam_v, iI_nat (by omega), w4.chance hW F4 P4 (Or.inr a3), bnd_s, e_X4_lower F4, bnd_s]
          by_cases b3 : what = 1
          · rw [if_pos (by rw [b3])]
            exact k84 _ (by rw [if_pos b3])
          · rw [if_neg (by rw [iI_eq (by omega) (by omega)]; exact b3)]
            exact k84 _ (by rw [if_neg b3])
    · rw [if_pos (by rw [bZ_i0]; exact a2), if_neg (fun z => a2 z.2)]
      exact OpL.ret hC
  · rw [if_pos (by rw [bZ_i0]; exact a1), if_neg (fun z => a1 z.1)]
    exact OpL.ret hC
/-- one goes where she stands best, if that is better -/
noncomputable def gbP (w : WR) (ls : List (List DC)) (fl : FL) (p : Int → Int) (c : Int) : Prop := (bestC w ls fl p c).1 ≠ -1 ∧ chF w ls (w 2 8) c p fl < chF w ls (w 2 8) c (fup p c (bestC w ls fl p c).1) fl
noncomputable def gbF (w : WR) (ls : List (List DC)) (fl : FL) (p : Int → Int) (c : Int) : Int → Int := @ite _ (gbP w ls fl p c) (Classical.propDecidable _) (fup p c (bestC w ls fl p c).1) p
theorem e_X0_goesBest {D : Nat → Prop} {s : St} {w : WR} {ls : List (List DC)} (hC : Cw D s w ls) (hW : Wf w ls) {fl : FL} (hF : FlE s 23 24 25 fl) {p : Int → Int} (hP : PpE s p) {c : Int} (hc : 0 ≤ c ∧ c < w 2 8) : ∃ s1, F_X0_goesBest s (iI c) = some (iI (bZ (gbP w ls fl p c)), s1) ∧ Cw D s1 w ls ∧ FlE s1 23 24 25 fl ∧ PpE s1 (gbF w ls fl p c) ∧ Fr t28 s s1 := by
  have hm := hW.1
  have hs := hF.sum
  obtain ⟨s1, e1, c1, F1, P1, r1, b1⟩ := e_X0_bestCell hC hW hF hP hc
  have hpc := hP c hc.1 (by omega)
  unfold F_X0_goesBest gbF
  rw [e1, bnd_s, k_m1, k_0, k_1]
  by_cases a1 : (bestC w ls fl p c).1 = -1
  · have hno : ¬ gbP w ls fl p c := fun z => z.1 a1
    rw [if_pos (by rw [a1]), if_neg hno, bZ_f hno]
    exact ⟨s1, rfl, c1, F1, P1, r1⟩
  · have c2 := c1.pp (k := c.toNat) (v := iI (bestC w ls fl p c).1)
    have r2 : Fr t28 s1 (setI s1 28 c.toNat (iI (bestC w ls fl p c).1)) := Fr.set rfl
    have F2 := F1.fr r2 (by decide) (by decide) (by decide)
    have P2 := P1.set (v := (bestC w ls fl p c).1) hc.1 (by omega)
    have q1 := hF.cO (w := w) (ls := ls) (n := w 2 8) (c := c) (f := p)
    have q2 := hF.cO (w := w) (ls := ls) (n := w 2 8) (c := c) (f := fup p c (bestC w ls fl p c).1)
    rw [if_neg (by rw [iI_eq (by omega) (by omega)]; exact a1), c1.chance hW F1 P1 (Or.inr hc), bnd_s, inb_g (by omega), inb_g (by omega), nam_v, iI_nat (by omega), c2.chance hW F2 P2 (Or.inr hc), bnd_s]
    by_cases a2 : chF w ls (w 2 8) c (fup p c (bestC w ls fl p c).1) fl ≤ chF w ls (w 2 8) c p fl
    · have hno : ¬ gbP w ls fl p c := fun z => by have := z.2; omega
      have P3 := P2.set (v := p c) hc.1 hpc.2
      rw [fup_2, fup_id] at P3
      have r3 : Fr t28 s1 (setI (setI s1 28 c.toNat (iI (bestC w ls fl p c).1)) 28 c.toNat (iI (p c))) := r2.tr (Fr.set rfl)
      rw [if_pos (by rw [lI_le (by omega) (by omega)]; exact a2), inb_g (by omega), nam_v, (P1 c hc.1 (by omega)).1, if_neg hno, bZ_f hno]
      exact ⟨_, rfl, c2.pp, F1.fr r3 (by decide) (by decide) (by decide), P3, r1.tr r3⟩
    · have hy : gbP w ls fl p c := ⟨a1, by omega⟩
      rw [if_neg (by rw [lI_le (by omega) (by omega)]; exact a2), if_pos hy, bZ_t hy]
      exact ⟨_, rfl, c2, F2, P2, r1.tr r2⟩
/-- a round, from the catcher c on, n of them -/
noncomputable def rndF (w : WR) (ls : List (List DC)) (fl : FL) : Nat → Int → (Int → Int) → Int → (Int → Int) × Int
  | 0, _, p, g => (p, g)
  | n + 1, c, p, g => if w 5 c ≤ 0 then rndF w ls fl n (c + 1) p g else rndF w ls fl n (c + 1) (gbF w ls fl p c) (@ite _ (gbP w ls fl p c) (Classical.propDecidable _) 1 g)
/-- n rounds more, the next is the r-th -/
noncomputable def rstF (w : WR) (ls : List (List DC)) (fl : FL) (c : Int) : Nat → Int → (Int → Int) → Int
  | 0, _, _ => -1
  | n + 1, r, p => if (rndF w ls fl (w 2 8).toNat 0 p 0).2 = 0 then (if c = -1 then r else (rndF w ls fl (w 2 8).toNat 0 p 0).1 c) else rstF w ls fl c n (r + 1) (rndF w ls fl (w 2 8).toNat 0 p 0).1
theorem or_01 {a b : Int} (ha : a = 0 ∨ a = 1) (hb : b = 0 ∨ b = 1) : iI a ||| iI b = iI (if b = 1 then 1 else a) := by
  rcases ha with rfl | rfl <;> rcases hb with rfl | rfl <;> decide
theorem e_X0_rests_36 {D : Nat → Prop} {w : WR} {ls : List (List DC)} (hW : Wf w ls) {fl : FL} {c0 r : Int} (hc0 : c0 = -1 ∨ (0 ≤ c0 ∧ c0 < w 2 8)) {k : St → Int32 → Int32 → Option (Int32 × St)} {s0 : St} {v : Int} : ∀ (n : Nat) (c : Int) (s : St) (p : Int → Int) (g : Int), Cw D s w ls → FlE s 23 24 25 fl → PpE s p → Sm s0 s → 0 ≤ c → w 2 8 = n + c → (g = 0 ∨ g = 1) →
    ((rndF w ls fl n c p g).2 = 0 → v = if c0 = -1 then r else (rndF w ls fl n c p g).1 c0) →
    ((rndF w ls fl n c p g).2 ≠ 0 → ∀ s', Cw D s' w ls → FlE s' 23 24 25 fl → PpE s' (rndF w ls fl n c p g).1 → Sm s0 s' → Op D s0 ls (k s' (iI c0) (iI (r + 1))) v w) →
    ∀ fu, n < fu → Op D s0 ls (F_X0_rests_36 k fu s (iI c0) (iI r) (iI g) (iI c)) v w := by
  have hm := hW.1
  intro n
  induction n with
  | zero =>
    intro c s p g hC hF hP hs h0 hn hg hz hk fu hfu
    obtain ⟨fu, rfl⟩ : ∃ g, fu = g + 1 := ⟨fu - 1, by omega⟩
    rw [F_X0_rests_36]
    show Op D s0 ls (if si s 2 8 ≤ iI c then _ else _) v w
    rw [hC.1.2.1.many, if_pos (by rw [iI_le (by omega) (by omega)]; omega), k_m1, k_0, k_1]
    by_cases a1 : g = 0
    · have hv : v = if c0 = -1 then r else p c0 := hz a1
      rw [if_pos (by rw [a1])]
      by_cases a2 : c0 = -1
      · rw [if_pos (by rw [a2]), hv, if_pos a2]
        exact (Op.ret hC.1).after hs
      · have hc1 : 0 ≤ c0 ∧ c0 < w 2 8 := hc0.resolve_left a2
        rw [if_neg (by rw [iI_eq (by omega) (by omega)]; exact a2), inb_g (by omega), iI_nat (by omega), (hP c0 hc1.1 (by omega)).1, hv, if_neg a2]
        exact (Op.ret hC.1).after hs
    · rw [if_neg (by rw [iI_eq (by omega) (by omega)]; exact a1), iI_add]
      exact hk a1 s hC hF hP hs
  | succ n ih =>
    intro c s p g hC hF hP hs h0 hn hg hz hk fu hfu
    obtain ⟨fu, rfl⟩ : ∃ g, fu = g + 1 := ⟨fu - 1, by omega⟩
    have hcat := hW.cat (c := c) h0 (by omega)
    rw [F_X0_rests_36]
    show Op D s0 ls (if si s 2 8 ≤ iI c then _ else _) v w
    rw [hC.1.2.1.many, if_neg (by rw [iI_le (by omega) (by omega)]; omega), inb_g (by omega), iI_nat (by omega), hC.1.2.1 5 c h0 (by show _ < _; omega), k_0]
    unfold F_X0_rests_75 F_X0_rests_76
    by_cases a1 : w 5 c ≤ 0
    · rw [rndF, if_pos a1] at hz hk
      rw [if_pos (by rw [iI_le (by omega) (by omega)]; exact a1), k_0, k_1, iI_add, or_01 hg (Or.inl rfl), if_neg (by omega)]
      exact ih (c + 1) s p g hC hF hP hs (by omega) (by omega) hg hz hk fu (by omega)
    · obtain ⟨s1, e1, c1, F1, P1, r1⟩ := e_X0_goesBest hC hW hF hP (c := c) (by omega)
      rw [rndF, if_neg a1] at hz hk
      rw [if_neg (by rw [iI_le (by omega) (by omega)]; exact a1), e1, bnd_s]
      by_cases a2 : gbP w ls fl p c
      · rw [if_pos a2] at hz hk
        rw [if_neg (by rw [bZ_i0]; exact fun z => z a2), k_1, iI_add, or_01 hg (Or.inr rfl), if_pos rfl]
        exact ih (c + 1) s1 _ 1 c1 F1 P1 (hs.tr r1.smt) (by omega) (by omega) (Or.inr rfl) hz hk fu (by omega)
      · rw [if_neg a2] at hz hk
        rw [if_pos (by rw [bZ_i0]; exact a2), k_0, k_1, iI_add, or_01 hg (Or.inl rfl), if_neg (by omega)]
        exact ih (c + 1) s1 _ g c1 F1 P1 (hs.tr r1.smt) (by omega) (by omega) hg hz hk fu (by omega)
theorem e_X0_rests_25 {D : Nat → Prop} {w : WR} {ls : List (List DC)} (hW : Wf w ls) {fl : FL} {c0 : Int} (hc0 : c0 = -1 ∨ (0 ≤ c0 ∧ c0 < w 2 8)) {s0 : St} : ∀ (n : Nat) (r : Int) (s : St) (p : Int → Int), Cw D s w ls → FlE s 23 24 25 fl → PpE s p → Sm s0 s → 1 ≤ r → 51 = n + r → ∀ fu, n < fu → Op D s0 ls (F_X0_rests_25 fu s (iI c0) (iI r)) (rstF w ls fl c0 n r p) w := by
  have hm := hW.1
  intro n
  induction n with
  | zero =>
    intro r s p hC hF hP hs h0 hn fu hfu
    obtain ⟨fu, rfl⟩ : ∃ g, fu = g + 1 := ⟨fu - 1, by omega⟩
    rw [F_X0_rests_25]
    show Op D s0 ls (if (50 : Int32) < iI r then _ else _) _ w
    rw [k_m1, k_50, if_pos (by rw [iI_lt (by omega) (by omega)]; omega)]
    exact (Op.ret hC.1).after hs
  | succ n ih =>
    intro r s p hC hF hP hs h0 hn fu hfu
    obtain ⟨fu, rfl⟩ : ∃ g, fu = g + 1 := ⟨fu - 1, by omega⟩
    rw [F_X0_rests_25]
    show Op D s0 ls (if (50 : Int32) < iI r then _ else _) _ w
    rw [k_50, if_neg (by rw [iI_lt (by omega) (by omega)]; omega), k_0]
    refine e_X0_rests_36 hW hc0 (w 2 8).toNat 0 s p 0 hC hF hP hs (by omega) (by omega) (Or.inl rfl) (fun h => ?_) (fun h s' hC' hF' hP' hs' => ?_) FU (FU_ge (by omega))
    · rw [rstF, if_pos h]
    · rw [rstF, if_neg h]
      exact ih (r + 1) s' _ hC' hF' hP' hs' (by omega) (by omega) fu (by omega)
noncomputable def restsV (w : WR) (ls : List (List DC)) (c : Int) : Int := @ite _ (c = -1 ∨ isC w c) (Classical.propDecidable _) (rstF w ls (nowL w ls) c 50 1 (w 3)) (-1)
theorem x_rests {D : Nat → Prop} {s : St} {w : WR} {ls : List (List DC)} (hC : C0 D s w ls) (hW : Wf w ls) {c : Int} (h1 : i32 c) : Op D s ls (F_X0_rests s (iI c)) (restsV w ls c) w := by
  have hm := hW.1
  unfold i32 at h1
  have k15 : c = -1 ∨ isC w c → Op D s ls (F_X0_rests_15 s (iI c)) (restsV w ls c) w := fun h => by
    obtain ⟨s1, e1, hL, hF⟩ := e_X0_looks hC hW
    obtain ⟨s2, e2, c2, P2, r2⟩ := e_X0_copies hL.1 hW
    obtain ⟨w2, F2⟩ := hL.copies c2 r2
    unfold F_X0_rests_15 restsV
    rw [e1, bnd_s, e2, bnd_s, if_pos h, k_1]
    exact e_X0_rests_25 hW h 50 1 s2 (w 3) w2 F2 P2 (hF.smq.tr r2.smt) (by omega) (by omega) FU (FU_ge (by omega))
  unfold F_X0_rests
  rw [k_m1, k_0]
  by_cases a : c = -1
  · rw [if_pos (by rw [a])]
    exact k15 (Or.inl a)
  · rw [if_neg (by rw [iI_eq (by omega) (by omega)]; exact a), e_X0_isCatcher hC.2.1 hm h1, bnd_s]
    by_cases b : isC w c
    · rw [if_neg (by rw [bZ_i0]; exact fun z => z b)]
      exact k15 (Or.inr b)
    · rw [if_pos (by rw [bZ_i0]; exact b)]
      unfold restsV
      rw [if_neg (fun z => z.elim a b)]
      exact Op.ret hC
