set_option maxRecDepth 100000
/-! ===== the component: what comes, who has it ===== -/
def OpL (D : Nat → Prop) (s : St) (ls : List (List DC)) (x : Option (Int64 × St)) (v : Int) (w' : WR) : Prop := ∃ s', x = some (lI v, s') ∧ C0 D s' w' ls ∧ Sm s s'
theorem OpL.ret {D : Nat → Prop} {s : St} {ls : List (List DC)} {v : Int} {w : WR} (h : C0 D s w ls) : OpL D s ls (some (lI v, s)) v w := ⟨s, rfl, h, Sm.rf⟩
theorem OpL.after {D : Nat → Prop} {s s1 : St} {ls : List (List DC)} {x : Option (Int64 × St)} {v : Int} {w' : WR} (h : Sm s s1) (k : OpL D s1 ls x v w') : OpL D s ls x v w' := by
  obtain ⟨s2, e, hC, hS⟩ := k
  exact ⟨s2, e, hC, h.tr hS⟩
theorem OpL.bnd {D : Nat → Prop} {s : St} {ls : List (List DC)} {x : Option (Int64 × St)} {v : Int} {w' : WR} (h : OpL D s ls x v w') : OpL D s ls (bnd x fun r s => some (r, s)) v w' := by
  obtain ⟨s2, rfl, hC, hS⟩ := h
  exact ⟨s2, rfl, hC, hS⟩
theorem Fr.smq {s s' : St} (h : Fr q31 s s') : Sm s s' := h.sm fun b hb => by
  unfold q31 at hb
  omega
theorem laysL_pos {w : WR} {ls : List (List DC)} {f sd : Int} : 0 < sumW (laysL w ls f sd) := by
  unfold laysL
  split
  · show (0 : Int) < 1 + 0
    decide
  · split
    · show (0 : Int) < 1 + 0
      decide
    · omega
noncomputable def nowL (w : WR) (ls : List (List DC)) : FL := laysL w ls (w 8 0) (w 8 1)
theorem wOf_r {cell : Int} : ∀ {fl : FL}, (∀ x ∈ fl, 0 ≤ x.2 ∧ x.2 ≤ 9) → 0 ≤ wOf cell fl ∧ wOf cell fl ≤ sumW fl := by
  intro fl
  induction fl with
  | nil => intro _; exact ⟨Int.le_refl _, Int.le_refl _⟩
  | cons x r ih =>
    intro h
    have h1 := h x List.mem_cons_self
    have h2 := ih (fun y hy => h y (List.mem_cons_of_mem _ hy))
    rw [sumW, wOf]
    split <;> omega
theorem FlE.mem {s : St} {a b c : Nat} {fl : FL} (h : FlE s a b c fl) : ∀ x ∈ fl, (-1 ≤ x.1 ∧ x.1 ≤ 35) ∧ (0 ≤ x.2 ∧ x.2 ≤ 9) := fun x hx => by
  obtain ⟨i, hi⟩ := List.mem_iff_getElem?.mp hx
  exact (h.2.2.2.2.2.2.2.2 i x hi).2.2
theorem FlE.wO {s : St} {a b c : Nat} {fl : FL} (h : FlE s a b c fl) {cell : Int} : 0 ≤ wOf cell fl ∧ wOf cell fl ≤ sumW fl := wOf_r fun x hx => (h.mem x hx).2
theorem chF_r {w : WR} {ls : List (List DC)} {n c : Int} {f : Int → Int} : ∀ {fl : FL}, (∀ x ∈ fl, 0 ≤ x.2 ∧ x.2 ≤ 9) → 0 ≤ chF w ls n c f fl ∧ chF w ls n c f fl ≤ 60 * sumW fl := by
  intro fl
  induction fl with
  | nil => intro _; exact ⟨Int.le_refl _, Int.le_refl _⟩
  | cons x r ih =>
    intro h
    have h1 := h x List.mem_cons_self
    have h2 := ih (fun y hy => h y (List.mem_cons_of_mem _ hy))
    have hp := partZ_r (w := w) (ls := ls) (n := n) (c := c) (f := f) (cell := x.1)
    rw [sumW, chF]
    have h3 : 0 ≤ x.2 * partZ w ls n c f x.1 := Int.mul_nonneg h1.1 hp.1
    have h4 : x.2 * partZ w ls n c f x.1 ≤ x.2 * 60 := Int.mul_le_mul_of_nonneg_left hp.2 h1.1
    omega
theorem FlE.cO {s : St} {a b c0 : Nat} {fl : FL} (h : FlE s a b c0 fl) {w : WR} {ls : List (List DC)} {n c : Int} {f : Int → Int} : 0 ≤ chF w ls n c f fl ∧ chF w ls n c f fl ≤ 60 * sumW fl := chF_r fun x hx => (h.mem x hx).2
theorem e_tells_b (s : St) {u l : Int} (hu : 0 ≤ u ∧ u ≤ 4000000000000000000) (hl : 0 < l ∧ l ≤ 4000000000000000000) (p : Prop) [Decidable p] {z : Int32} (hz : z = iI (if p then 1 else 0)) : F_X0_tells s (lI u) (lI l) z = some (lI (tellZ u l (decide p)), s) := by
  have := e_X0_tells s hu hl (decide p)
  rw [hz]
  rw [← this]
  congr 2
  by_cases h : p <;> simp [h]
noncomputable def comesFV (w : WR) (ls : List (List DC)) (cell what : Int) : Int := if (-1 ≤ cell ∧ cell ≤ 35) ∧ (0 ≤ what ∧ what ≤ 1) then tellZ (wOf cell (nowL w ls)) (sumW (nowL w ls)) (decide (what = 0)) else -1
theorem x_comes {D : Nat → Prop} {s : St} {w : WR} {ls : List (List DC)} (hC : C0 D s w ls) (hW : Wf w ls) {cell what : Int} (h1 : i32 cell) (h2 : i32 what) : Op D s ls (F_X0_comes s (iI cell) (iI what)) (comesFV w ls cell what) w := by
  unfold i32 at h1 h2
  have k12 : -1 ≤ cell ∧ cell ≤ 35 → Op D s ls (F_X0_comes_12 s (iI cell) (iI what)) (comesFV w ls cell what) w := fun h => by
    unfold F_X0_comes_12 comesFV
    rw [k_m1, k_0, k_1, e_X0_in s (by omega) (by omega) (by omega), bnd_s]
    by_cases a : 0 ≤ what ∧ what ≤ 1
    · obtain ⟨s1, e, hL, hF⟩ := e_X0_looks hC hW
      have hp := laysL_pos (w := w) (ls := ls) (f := w 8 0) (sd := w 8 1)
      have hs := hL.2.2.2.sum
      have hw := hL.2.2.2.wO (cell := cell)
      have hr := tellZ_r (u := wOf cell (nowL w ls)) (l := sumW (nowL w ls)) (up := decide (what = 0)) (by unfold nowL; omega) (by unfold nowL; omega)
      have hr2 : tellZ (wOf cell (nowL w ls)) (sumW (nowL w ls)) (decide (what = 0)) ≤ 81 := by
        refine Int.le_trans hr.2 ?_
        unfold nowL
        split <;> omega
      have k53 : ∀ z : Int32, z = iI (if what = 0 then 1 else 0) → Op D s ls (F_X0_comes_53 s1 z (si s1 23 3).toInt64 (iI (wOf cell (laysL w ls (w 8 0) (w 8 1)))).toInt64) (tellZ (wOf cell (nowL w ls)) (sumW (nowL w ls)) (decide (what = 0))) w := fun z hz => by
        unfold F_X0_comes_53
        rw [hL.2.2.2.2.2.2.2.2.2.1, iI_l (by omega), iI_l (by omega), e_tells_b s1 (by omega) (by omega) (what = 0) hz, bnd_s]
        show Op D s ls (some ((lI (tellZ (wOf cell (nowL w ls)) (sumW (nowL w ls)) (decide (what = 0)))).toInt32, s1)) _ _
        rw [lI_i (by omega)]
        exact (Op.ret hL.1).after hF.smq
      rw [if_neg (by rw [bZ_i0]; exact fun z => z a), if_pos ⟨h, a⟩, e, bnd_s, e_X4_weightOf hL.2.2.2 h, bnd_s]
      by_cases b : what = 0
      · rw [if_pos (by rw [b])]
        exact k53 _ (by rw [if_pos b])
      · rw [if_neg (by rw [iI_eq (by omega) (by omega)]; exact b)]
        exact k53 _ (by rw [if_neg b])
    · rw [if_pos (by rw [bZ_i0]; exact a), if_neg (fun z => a z.2)]
      exact Op.ret hC
  unfold F_X0_comes
  rw [k_m1, k_0]
  by_cases a : cell = -1
  · rw [if_pos (by rw [a])]
    exact k12 (by omega)
  · rw [if_neg (by rw [iI_eq (by omega) (by omega)]; exact a), e_X0_isCell s h1, bnd_s]
    by_cases b : 0 ≤ cell ∧ cell ≤ 35
    · rw [if_neg (by rw [bZ_i0]; exact fun z => z b)]
      exact k12 (by omega)
    · rw [if_pos (by rw [bZ_i0]; exact b)]
      unfold comesFV
      rw [if_neg (by omega)]
      exact Op.ret hC
theorem RCi.cel {s : St} {w : WR} {ls : List (List DC)} (h : RCi s w) (hW : Wf w ls) : ∀ c, 0 ≤ c → c < 6 → si s 3 c.toNat = iI (w 3 c) ∧ 0 ≤ w 3 c ∧ w 3 c ≤ 35 := fun c h0 h6 => ⟨h 3 c h0 h6, by have := hW.cat h0 h6; omega⟩
noncomputable def hasV (w : WR) (ls : List (List DC)) (c what : Int) : Int := @ite _ ((c = -1 ∨ isC w c) ∧ (0 ≤ what ∧ what ≤ 1)) (Classical.propDecidable _) (tellZ (chF w ls (w 2 8) c (w 3) (nowL w ls)) (60 * sumW (nowL w ls)) (decide (what = 0))) (-1)
theorem x_has {D : Nat → Prop} {s : St} {w : WR} {ls : List (List DC)} (hC : C0 D s w ls) (hW : Wf w ls) {c what : Int} (h1 : i32 c) (h2 : i32 what) : OpL D s ls (F_X0_has s (iI c) (iI what)) (hasV w ls c what) w := by
  have hm := hW.1
  unfold i32 at h1 h2
  have k13 : c = -1 ∨ isC w c → OpL D s ls (F_X0_has_13 s (iI c) (iI what)) (hasV w ls c what) w := fun h => by
    unfold F_X0_has_13 hasV
    rw [K_m1, k_0, k_1, e_X0_in s (by omega) (by omega) (by omega), bnd_s]
    by_cases a : 0 ≤ what ∧ what ≤ 1
    · obtain ⟨s1, e, hL, hF⟩ := e_X0_looks hC hW
      have hp := laysL_pos (w := w) (ls := ls) (f := w 8 0) (sd := w 8 1)
      have hs := hL.2.2.2.sum
      have hw := hL.2.2.2.cO (w := w) (ls := ls) (n := w 2 8) (c := c) (f := w 3)
      have k62 : ∀ z : Int32, z = iI (if what = 0 then 1 else 0) → OpL D s ls (F_X0_has_62 s1 z (lI (60 * sumW (nowL w ls))) (lI (chF w ls (w 2 8) c (w 3) (nowL w ls)))) (tellZ (chF w ls (w 2 8) c (w 3) (nowL w ls)) (60 * sumW (nowL w ls)) (decide (what = 0))) w := fun z hz => by
        unfold F_X0_has_62
        rw [e_tells_b s1 (by unfold nowL; omega) (by unfold nowL; omega) (what = 0) hz, bnd_s]
        exact (OpL.ret hL.1).after hF.smq
      rw [if_neg (by rw [bZ_i0]; exact fun z => z a), if_pos ⟨h, a⟩, e, bnd_s, e_X0_chance hL.1.2.1 hW hL.2.2.1 hm hL.2.1 hL.2.2.2 (hL.1.1.1 3 (by decide)) (hL.1.2.1.cel hW) h, bnd_s, e_X4_lower hL.2.2.2, bnd_s]
      by_cases b : what = 0
      · rw [if_pos (by rw [b])]
        exact k62 _ (by rw [if_pos b])
      · rw [if_neg (by rw [iI_eq (by omega) (by omega)]; exact b)]
        exact k62 _ (by rw [if_neg b])
    · rw [if_pos (by rw [bZ_i0]; exact a), if_neg (fun z => a z.2)]
      exact OpL.ret hC
  unfold F_X0_has
  rw [k_m1, K_m1, k_0]
  by_cases a : c = -1
  · rw [if_pos (by rw [a])]
    exact k13 (Or.inl a)
  · rw [if_neg (by rw [iI_eq (by omega) (by omega)]; exact a), e_X0_isCatcher hC.2.1 hm h1, bnd_s]
    by_cases b : isC w c
    · rw [if_neg (by rw [bZ_i0]; exact fun z => z b)]
      exact k13 (Or.inr b)
    · rw [if_pos (by rw [bZ_i0]; exact b)]
      unfold hasV
      rw [if_neg (fun z => z.1.elim a b)]
      exact OpL.ret hC
