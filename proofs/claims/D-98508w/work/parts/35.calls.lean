set_option maxRecDepth 100000
/-! ===== the component's calls, the plain ones ===== -/
def Wx (w : WR) : Prop := (0 ≤ w 0 11 ∧ w 0 11 ≤ 400) ∧ (0 ≤ w 0 15 ∧ w 0 15 ≤ 16) ∧ (0 ≤ w 0 26 ∧ w 0 26 ≤ 6)
def i32 (z : Int) : Prop := -2147483648 ≤ z ∧ z ≤ 2147483647
theorem comesZ_r {w : WR} {ls : List (List DC)} {a b c d : Int} : comesZ w ls a b c d = 0 ∨ (-6 ≤ comesZ w ls a b c d ∧ comesZ w ls a b c d < 0) := by
  unfold comesZ
  split
  · omega
  · split
    · omega
    · split <;> omega
noncomputable def catV (w : WR) (ls : List (List DC)) (a b c d : Int) : Int := if comesZ w ls a b c d = 0 then w 2 8 else comesZ w ls a b c d
noncomputable def catW (w : WR) (ls : List (List DC)) (a b c d : Int) : WR := if comesZ w ls a b c d = 0 then wup (wup (comesW w a b c d) 0 15 0) 0 0 0 else refW w (comesZ w ls a b c d)
theorem x_catcher {D : Nat → Prop} {s : St} {w : WR} {ls : List (List DC)} (hC : C0 D s w ls) (hW : Wf w ls) {a b c d : Int} (h1 : i32 a) (h2 : i32 b) (h3 : i32 c) (h4 : i32 d) : Op D s ls (F_X0_catcher s (iI a) (iI b) (iI c) (iI d)) (catV w ls a b c d) (catW w ls a b c d) := by
  obtain ⟨s1, e, hC1, hS1⟩ := e_X0_comesIn hC hW h1 h2 h3 h4
  unfold F_X0_catcher catV catW
  rw [e, bnd_s]
  unfold comesV at hC1
  have hm := hW.1
  rcases comesZ_r (w := w) (ls := ls) (a := a) (b := b) (c := c) (d := d) with h | h
  · rw [if_pos h] at hC1
    rw [if_pos (by rw [h]; decide), if_pos h, if_pos h, hC1.2.1.many, k_1, iI_sub]
    refine Op.after hS1 ?_
    have : comesW w a b c d 2 8 - 1 = w 2 8 := by
      unfold comesW
      rw [wup_s]
      omega
    rw [this]
    exact (Op.settled hC1 _).bnd
  · rw [if_neg (by omega)] at hC1
    rw [if_neg (by rw [k_0, iI_le (by omega) (by omega)]; omega), if_neg (by omega), if_neg (by omega)]
    exact (Op.refuse hC1 h).bnd.after hS1
noncomputable def isC (w : WR) (c : Int) : Prop := 0 ≤ c ∧ c < w 2 8
noncomputable def putV (w : WR) (c what v : Int) : Int := @ite _ (isPutP what v) (Classical.propDecidable _) (@ite _ (isC w c) (Classical.propDecidable _) 0 (-2)) (-1)
noncomputable def putW (w : WR) (c what v : Int) : WR := @ite _ (isPutP what v) (Classical.propDecidable _) (@ite _ (isC w c) (Classical.propDecidable _) (wup (wup w (4 + what.toNat) c v) 0 0 0) (refW w (-2))) (refW w (-1))
theorem x_put {D : Nat → Prop} {s : St} {w : WR} {ls : List (List DC)} (hC : C0 D s w ls) (hW : Wf w ls) {c what v : Int} (h1 : i32 c) (h2 : i32 what) (h3 : i32 v) : Op D s ls (F_X0_put s (iI c) (iI what) (iI v)) (putV w c what v) (putW w c what v) := by
  have hm := hW.1
  unfold F_X0_put putV putW
  rw [e_X0_isPut s h2 h3, bnd_s, k_m1, k_m2, k_0, k_1]
  by_cases a1 : isPutP what v
  · rw [if_neg (by rw [bZ_i0]; exact fun z => z a1), if_pos a1, if_pos a1, e_X0_isCatcher hC.2.1 hm h1, bnd_s]
    by_cases a2 : isC w c
    · have a3 : 0 ≤ c ∧ c < w 2 8 := a2
      rw [if_neg (by rw [bZ_i0]; exact fun z => z a2), if_pos a2, if_pos a2]
      have key : ∀ r : Nat, r < 31 → r ≠ 10 → kC r = (100, 6) → Op D s ls (F_X0_put_65 s (iI c) (iI v) (some r)) 0 (wup (wup w r c v) 0 0 0) := by
        intro r hr hr2 hk
        have hk2 := (hC.1.1 r hr).trans hk
        unfold F_X0_put_65
        rw [drf_s, isK_g (by rw [hk2]), hk2, inb_g (by omega), nam_v, iI_nat (by omega), k_0]
        exact (Op.done (hC.set r (by omega) ⟨hr, hr2⟩) 0).bnd.after (Sm.set hr)
      unfold isPutP at a1
      rcases a1 with ⟨rfl, -⟩ | ⟨rfl, -⟩ | ⟨rfl, -⟩
      · rw [if_pos rfl]
        exact key 4 (by decide) (by decide) rfl
      · rw [if_neg (by decide), if_pos rfl]
        exact key 5 (by decide) (by decide) rfl
      · rw [if_neg (by decide), if_neg (by decide)]
        exact key 6 (by decide) (by decide) rfl
    · rw [if_pos (by rw [bZ_i0]; exact a2), if_neg a2, if_neg a2]
      exact (Op.refuse hC (by omega)).bnd
  · rw [if_pos (by rw [bZ_i0]; exact a1), if_neg a1, if_neg a1]
    exact (Op.refuse hC (by omega)).bnd
noncomputable def ofV (w : WR) (c what : Int) : Int := @ite _ (isC w c ∧ 0 ≤ what ∧ what ≤ 4) (Classical.propDecidable _) (w (if what = 0 then 4 else if what = 1 then 5 else if what = 2 then 6 else if what = 3 then 3 else 7) c) (-1000)
theorem x_of {D : Nat → Prop} {s : St} {w : WR} {ls : List (List DC)} (hC : C0 D s w ls) (hW : Wf w ls) {c what : Int} (h1 : i32 c) (h2 : i32 what) : Op D s ls (F_X0_of s (iI c) (iI what)) (ofV w c what) w := by
  have hm := hW.1
  have hR := hC.2.1
  unfold i32 at h2
  unfold F_X0_of ofV
  rw [e_X0_isCatcher hC.2.1 hm h1, bnd_s, k_m1000, k_0, k_1, k_2, k_3, k_4]
  by_cases a2 : isC w c
  · have a3 : 0 ≤ c ∧ c < w 2 8 := a2
    rw [if_neg (by rw [bZ_i0]; exact fun z => z a2)]
    simp (disch := omega) only [iI_eq, inb_g, iI_nat]
    rw [hR 3 c (by omega) (by show _ < _; omega), hR 4 c (by omega) (by show _ < _; omega), hR 5 c (by omega) (by show _ < _; omega), hR 6 c (by omega) (by show _ < _; omega), hR 7 c (by omega) (by show _ < _; omega)]
    by_cases b0 : what = 0
    · rw [if_pos b0, if_pos ⟨a2, by omega⟩, if_pos b0]; exact Op.ret hC
    · rw [if_neg b0]
      by_cases b1 : what = 1
      · rw [if_pos b1, if_pos ⟨a2, by omega⟩, if_neg b0, if_pos b1]; exact Op.ret hC
      · rw [if_neg b1]
        by_cases b2 : what = 2
        · rw [if_pos b2, if_pos ⟨a2, by omega⟩, if_neg b0, if_neg b1, if_pos b2]; exact Op.ret hC
        · rw [if_neg b2]
          by_cases b3 : what = 3
          · rw [if_pos b3, if_pos ⟨a2, by omega⟩, if_neg b0, if_neg b1, if_neg b2, if_pos b3]; exact Op.ret hC
          · rw [if_neg b3]
            by_cases b4 : what = 4
            · rw [if_pos b4, if_pos ⟨a2, by omega⟩, if_neg b0, if_neg b1, if_neg b2, if_neg b3]; exact Op.ret hC
            · rw [if_neg b4, if_neg (fun z => by omega)]; exact Op.ret hC
  · rw [if_pos (by rw [bZ_i0]; exact a2), if_neg (fun z => a2 z.1)]
    exact Op.ret hC
noncomputable def termV (what v : Int) : Int := @ite _ (isTermP what v) (Classical.propDecidable _) 0 (-1)
noncomputable def termW (w : WR) (what v : Int) : WR := @ite _ (isTermP what v) (Classical.propDecidable _) (wup (wup w 8 what v) 0 0 0) (refW w (-1))
theorem x_terms {D : Nat → Prop} {s : St} {w : WR} {ls : List (List DC)} (hC : C0 D s w ls) {what v : Int} (h1 : i32 what) (h2 : i32 v) : Op D s ls (F_X0_terms s (iI what) (iI v)) (termV what v) (termW w what v) := by
  unfold F_X0_terms termV termW
  rw [e_X0_isTerm s h1 h2, bnd_s, k_m1, k_0]
  by_cases a1 : isTermP what v
  · have a2 : 0 ≤ what ∧ what ≤ 8 := by unfold isTermP at a1; omega
    rw [if_neg (by rw [bZ_i0]; exact fun z => z a1), if_pos a1, if_pos a1, inb_g (by omega), nam_v, iI_nat (by omega)]
    exact (Op.done (hC.set 8 (by omega) (by decide)) 0).bnd.after (Sm.set (by decide))
  · rw [if_pos (by rw [bZ_i0]; exact a1), if_neg a1, if_neg a1]
    exact (Op.refuse hC (by omega)).bnd
theorem rel0 {k : Int} (h : k = 0 ∨ (11 ≤ k ∧ k ≤ 15) ∨ k = 26 ∨ k = 27) : relC 0 k := h
theorem RCi.o {s : St} {w : WR} (h : RCi s w) {k : Int} (hk : relC 0 k) (h0 : 0 ≤ k) : si s 0 k.toNat = iI (w 0 k) := h 0 k h0 hk
theorem RCi.filmMany {s : St} {w : WR} (h : RCi s w) : si s 2 9 = iI (w 2 9) := h 2 9 (by omega) (by show _ ∧ _; omega)
noncomputable def filmV (w : WR) (c : Int) : Int := if 0 ≤ c ∧ c ≤ 35 then (if w 2 9 = 8 then -5 else w 2 9 + 1) else -1
noncomputable def filmW (w : WR) (c : Int) : WR := if 0 ≤ c ∧ c ≤ 35 then (if w 2 9 = 8 then refW w (-5) else wup (wup (wup w 9 (w 2 9) c) 2 9 (w 2 9 + 1)) 0 0 0) else refW w (-1)
theorem x_film {D : Nat → Prop} {s : St} {w : WR} {ls : List (List DC)} (hC : C0 D s w ls) (hW : Wf w ls) {c : Int} (h1 : i32 c) : Op D s ls (F_X0_film s (iI c)) (filmV w c) (filmW w c) := by
  have hm := hW.2.1
  unfold F_X0_film filmV filmW
  rw [e_X0_isCell s h1, bnd_s, k_m1, k_m5, k_0, k_8, k_1]
  by_cases a1 : 0 ≤ c ∧ c ≤ 35
  · rw [if_neg (by rw [bZ_i0]; exact fun z => z a1), if_pos a1, if_pos a1, hC.2.1.filmMany]
    by_cases a2 : w 2 9 = 8
    · rw [if_pos (by rw [a2]), if_pos a2, if_pos a2]
      exact (Op.refuse hC (by omega)).bnd
    · have hC1 := hC.set 9 (k := w 2 9) (v := c) (by omega) (by decide)
      have hC2 := hC1.set 2 (k := 9) (v := w 2 9 + 1) (by omega) (by decide)
      have e1 := hC1.2.1.filmMany
      rw [wup_n (by decide)] at e1
      have e2 := hC2.2.1.filmMany
      rw [wup_s] at e2
      rw [if_neg (by rw [iI_eq (by omega) (by omega)]; exact a2), if_neg a2, if_neg a2, inb_g (by omega), nam_v, iI_nat (by omega), nam_v, e1, iI_add]
      show Op D s ls (bnd (F_X0_done (setI (setI s 9 _ _) 2 (9 : Int).toNat _) (si (setI (setI s 9 (w 2 9).toNat (iI c)) 2 (9 : Int).toNat (iI (w 2 9 + 1))) 2 9)) _) _ _
      rw [e2]
      exact (Op.done hC2 _).bnd.after ((Sm.set (by decide)).tr (Sm.set (by decide)))
  · rw [if_pos (by rw [bZ_i0]; exact a1), if_neg a1, if_neg a1]
    exact (Op.refuse hC (by omega)).bnd
theorem x_burn {D : Nat → Prop} {s : St} {w : WR} {ls : List (List DC)} (hC : C0 D s w ls) : Op D s ls (F_X0_burn s) (w 2 9) (wup w 2 9 0) := by
  unfold F_X0_burn
  rw [nam_v, hC.2.1.filmMany]
  exact (Op.ret (hC.set 2 (k := 9) (v := 0) (by omega) (by decide))).after (Sm.set (by decide))
theorem C0.size {D : Nat → Prop} {s : St} {w : WR} {ls : List (List DC)} (h : C0 D s w ls) : F_J2_size s 10 = some (iI (ls.length : Int), s) := by
  obtain ⟨b, c, f, hL, -⟩ := h.2.2.1
  exact e_J2_size hL
noncomputable def forceV (ls : List (List DC)) (l : Int) : Int := if l = -1 ∨ (0 ≤ l ∧ l < ls.length) then 0 else -2
noncomputable def forceW (w : WR) (ls : List (List DC)) (l : Int) : WR := if l = -1 ∨ (0 ≤ l ∧ l < ls.length) then wup (wup w 2 10 l) 0 0 0 else refW w (-2)
theorem x_force {D : Nat → Prop} {s : St} {w : WR} {ls : List (List DC)} (hC : C0 D s w ls) (hW : Wf w ls) {l : Int} (h1 : i32 l) : Op D s ls (F_X0_force s (iI l)) (forceV ls l) (forceW w ls l) := by
  have hf := hW.frc
  unfold i32 at h1
  have key : Op D s ls (F_X0_force_32 s (iI l)) 0 (wup (wup w 2 10 l) 0 0 0) := by
    unfold F_X0_force_32
    rw [nam_v, k_0]
    exact (Op.done (hC.set 2 (k := 10) (v := l) (by omega) (by decide)) 0).bnd.after (Sm.set (by decide))
  unfold F_X0_force forceV forceW
  rw [k_m1, k_m2, k_0, k_1]
  by_cases a1 : l = -1
  · rw [if_pos (by rw [a1]), if_pos (Or.inl a1), if_pos (Or.inl a1)]
    exact key
  · rw [if_neg (by rw [iI_eq (by omega) (by omega)]; exact a1), hC.size, bnd_s, gp_SkC hC.1, iI_sub, e_X0_in s (by omega) (by omega) (by omega), bnd_s]
    by_cases a2 : 0 ≤ l ∧ l < ls.length
    · rw [if_neg (by rw [bZ_i0]; exact fun z => z (by omega)), if_pos (Or.inr a2), if_pos (Or.inr a2)]
      exact key
    · rw [if_pos (by rw [bZ_i0]; omega), if_neg (by omega), if_neg (by omega)]
      exact (Op.refuse hC (by omega)).bnd
theorem x_status {D : Nat → Prop} {s : St} {w : WR} {ls : List (List DC)} (hC : C0 D s w ls) : Op D s ls (F_X0_status s) (w 0 0) w := by
  unfold F_X0_status
  rw [show si s 0 0 = iI (w 0 0) from hC.2.1.o (k := 0) (Or.inl rfl) (by omega)]
  exact Op.ret hC
theorem x_fault {D : Nat → Prop} {s : St} {w : WR} {ls : List (List DC)} (hC : C0 D s w ls) : Op D s ls (F_X0_fault s) (w 0 12) w := by
  unfold F_X0_fault
  rw [show si s 0 12 = iI (w 0 12) from hC.2.1.o (k := 12) (rel0 (by omega)) (by omega)]
  exact Op.ret hC
theorem x_stopped {D : Nat → Prop} {s : St} {w : WR} {ls : List (List DC)} (hC : C0 D s w ls) : Op D s ls (F_X0_stopped s) (w 0 14) w := by
  unfold F_X0_stopped
  rw [show si s 0 14 = iI (w 0 14) from hC.2.1.o (k := 14) (rel0 (by omega)) (by omega)]
  exact Op.ret hC
theorem x_rice {D : Nat → Prop} {s : St} {w : WR} {ls : List (List DC)} (hC : C0 D s w ls) : Op D s ls (F_X0_rice s) (w 0 13) w := by
  unfold F_X0_rice
  rw [show si s 0 13 = iI (w 0 13) from hC.2.1.o (k := 13) (rel0 (by omega)) (by omega)]
  exact Op.ret hC
theorem RCi.taped {s : St} {w : WR} (h : RCi s w) : si s 0 11 = iI (w 0 11) := h.o (k := 11) (rel0 (by omega)) (by omega)
theorem RCi.undo {s : St} {w : WR} (h : RCi s w) : si s 0 15 = iI (w 0 15) := h.o (k := 15) (rel0 (by omega)) (by omega)
theorem RCi.drM {s : St} {w : WR} (h : RCi s w) : si s 0 26 = iI (w 0 26) := h.o (k := 26) (rel0 (by omega)) (by omega)
noncomputable def endV (w : WR) (n : Int) : Int := if 0 ≤ n ∧ n ≤ w 0 11 then n else -1
noncomputable def endW (w : WR) (n : Int) : WR := if 0 ≤ n ∧ n ≤ w 0 11 then wup w 0 11 n else w
theorem x_end {D : Nat → Prop} {s : St} {w : WR} {ls : List (List DC)} (hC : C0 D s w ls) (hX : Wx w) {n : Int} (h1 : i32 n) : Op D s ls (F_X0_end s (iI n)) (endV w n) (endW w n) := by
  have hx := hX.1
  unfold i32 at h1
  unfold F_X0_end endV endW
  rw [hC.2.1.taped, k_m1, k_0]
  simp (disch := omega) only [iI_lt, iI_le]
  by_cases a1 : n < 0
  · rw [if_pos a1, if_neg (by omega), if_neg (by omega)]
    exact Op.ret hC
  · rw [if_neg a1]
    by_cases a2 : n ≤ w 0 11
    · rw [if_pos a2, if_pos (by omega), if_pos (by omega), nam_v]
      exact (Op.ret (hC.set 0 (k := 11) (v := n) (by omega) (by decide))).after (Sm.set (by decide))
    · rw [if_neg a2, if_neg (by omega), if_neg (by omega)]
      exact Op.ret hC
noncomputable def drawnV (w : WR) (c what : Int) : Int := if (0 ≤ c ∧ c < w 0 26) ∧ (what = 0 ∨ what = 1) then (if what = 0 then w 29 c else w 30 c) else -1
theorem x_drawn {D : Nat → Prop} {s : St} {w : WR} {ls : List (List DC)} (hC : C0 D s w ls) (hX : Wx w) {c what : Int} (h1 : i32 c) (h2 : i32 what) : Op D s ls (F_X0_drawn s (iI c) (iI what)) (drawnV w c what) w := by
  have hx := hX.2.2
  have hR := hC.2.1
  unfold i32 at h1 h2
  unfold F_X0_drawn F_X0_drawn_23 drawnV
  rw [hC.2.1.drM, k_m1, k_0, k_1, iI_sub, e_X0_in s (by omega) (by omega) (by omega), bnd_s, e_X0_in s (by omega) (by omega) (by omega), bnd_s]
  by_cases a1 : 0 ≤ c ∧ c < w 0 26
  · rw [if_neg (by rw [bZ_i0]; omega)]
    by_cases a2 : what = 0 ∨ what = 1
    · rw [if_neg (by rw [bZ_i0]; omega), if_pos (show (0 ≤ c ∧ c < w 0 26) ∧ (what = 0 ∨ what = 1) from ⟨a1, a2⟩), inb_g (by omega), inb_g (by omega), iI_nat (by omega), hR 29 c (by omega) (by show _ < _; omega), hR 30 c (by omega) (by show _ < _; omega)]
      by_cases a3 : what = 0
      · rw [if_pos (by rw [a3]), if_pos a3]
        exact Op.ret hC
      · rw [if_neg (by rw [iI_eq (by omega) (by omega)]; exact a3), if_neg a3]
        exact Op.ret hC
    · rw [if_pos (by rw [bZ_i0]; omega), if_neg (by omega)]
      exact Op.ret hC
  · rw [if_pos (by rw [bZ_i0]; omega), if_neg (by omega)]
    exact Op.ret hC
noncomputable def countV (w : WR) (ls : List (List DC)) (what : Int) : Int :=
  if what = 0 then w 2 8 else if what = 1 then w 2 9 else if what = 2 then ls.length else if what = 3 then w 0 15 else if what = 4 then w 0 11
  else if 5 ≤ what ∧ what ≤ 7 then w 1 (what - 4) else if 8 ≤ what ∧ what ≤ 9 then w 1 (what - 3) else if what = 10 then w 2 10
  else if 11 ≤ what ∧ what ≤ 19 then w 8 (what - 11) else -1000
theorem x_count {D : Nat → Prop} {s : St} {w : WR} {ls : List (List DC)} (hC : C0 D s w ls) {n : Int} (h1 : i32 n) : Op D s ls (F_X0_count s (iI n)) (countV w ls n) w := by
  have hR := hC.2.1
  unfold i32 at h1
  have k97 : 5 ≤ n ∧ n ≤ 7 → Op D s ls (F_X0_count_97 s (iI n)) (w 1 (n - 4)) w := fun h => by
    unfold F_X0_count_97
    rw [k_4, iI_sub, inb_g (by omega), iI_nat (by omega), hR 1 (n - 4) (by omega) (by show _ < _; omega)]
    exact Op.ret hC
  have k106 : 8 ≤ n ∧ n ≤ 9 → Op D s ls (F_X0_count_106 s (iI n)) (w 1 (n - 3)) w := fun h => by
    unfold F_X0_count_106
    rw [k_3, iI_sub, inb_g (by omega), iI_nat (by omega), hR 1 (n - 3) (by omega) (by show _ < _; omega)]
    exact Op.ret hC
  unfold F_X0_count countV
  rw [hR.many, hR.filmMany, hR.undo, hR.taped, hR.frc, hC.size, bnd_s, gp_SkC hC.1]
  rw [k_m1000, k_0, k_1, k_2, k_3, k_4, k_5, k_6, k_7, k_8, k_9, k_10, k_11, k_19]
  rw [iI_sub, e_X0_in s (by omega) (by omega) (by omega), bnd_s]
  have ne : ∀ z : Int, n ≠ z → 0 ≤ z ∧ z ≤ 100 → ¬ iI n = iI z := fun z h hz => by rw [iI_eq (by omega) (by omega)]; exact h
  by_cases c0 : n = 0
  · rw [if_pos (by rw [c0]), if_pos c0]; exact Op.ret hC
  rw [if_neg (ne 0 c0 (by omega)), if_neg c0]
  by_cases c1 : n = 1
  · rw [if_pos (by rw [c1]), if_pos c1]; exact Op.ret hC
  rw [if_neg (ne 1 c1 (by omega)), if_neg c1]
  by_cases c2 : n = 2
  · rw [if_pos (by rw [c2]), if_pos c2]; exact Op.ret hC
  rw [if_neg (ne 2 c2 (by omega)), if_neg c2]
  by_cases c3 : n = 3
  · rw [if_pos (by rw [c3]), if_pos c3]; exact Op.ret hC
  rw [if_neg (ne 3 c3 (by omega)), if_neg c3]
  by_cases c4 : n = 4
  · rw [if_pos (by rw [c4]), if_pos c4]; exact Op.ret hC
  rw [if_neg (ne 4 c4 (by omega)), if_neg c4]
  by_cases c5 : 5 ≤ n ∧ n ≤ 7
  · rw [if_pos c5]
    have := k97 c5
    by_cases d5 : n = 5
    · rw [if_pos (by rw [d5])]; exact this
    rw [if_neg (ne 5 d5 (by omega))]
    by_cases d6 : n = 6
    · rw [if_pos (by rw [d6])]; exact this
    rw [if_neg (ne 6 d6 (by omega)), if_pos (by rw [show n = 7 by omega])]
    exact this
  rw [if_neg (ne 5 (by omega) (by omega)), if_neg (ne 6 (by omega) (by omega)), if_neg (ne 7 (by omega) (by omega)), if_neg c5]
  by_cases c8 : 8 ≤ n ∧ n ≤ 9
  · rw [if_pos c8]
    have := k106 c8
    by_cases d8 : n = 8
    · rw [if_pos (by rw [d8])]; exact this
    rw [if_neg (ne 8 d8 (by omega)), if_pos (by rw [show n = 9 by omega])]
    exact this
  rw [if_neg (ne 8 (by omega) (by omega)), if_neg (ne 9 (by omega) (by omega)), if_neg c8]
  by_cases c10 : n = 10
  · rw [if_pos (by rw [c10]), if_pos c10]; exact Op.ret hC
  rw [if_neg (ne 10 c10 (by omega)), if_neg c10]
  by_cases c11 : 11 ≤ n ∧ n ≤ 19
  · rw [if_neg (by rw [bZ_i0]; exact fun z => z c11), if_pos c11, e_X0_term hR (by omega), bnd_s]
    exact Op.ret hC
  · rw [if_pos (by rw [bZ_i0]; exact c11), if_neg c11]
    exact Op.ret hC
