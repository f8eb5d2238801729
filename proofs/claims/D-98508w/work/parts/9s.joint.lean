set_option maxRecDepth 100000
/-! ===== both answer alike ===== -/
def MI (t : St) (w : WR) (ls : List (List DC)) (iv : IV) : Prop := M0 t w ls ∧ ImM t iv ∧ TpM t w ∧ DrM t w ∧ WrdE t
def Kq (w w' : WR) : Prop := w' 0 26 = w 0 26 ∧ ∀ k, w' 19 k = w 19 k
theorem Kq.rf {w : WR} : Kq w w := ⟨rfl, fun _ => rfl⟩
theorem Kq.tr {w w1 w2 : WR} (h : Kq w w1) (g : Kq w1 w2) : Kq w w2 := ⟨g.1.trans h.1, fun k => (g.2 k).trans (h.2 k)⟩
theorem Kq.up {w : WR} {r : Nat} {k v : Int} (h : r ≠ 19 ∧ ¬ (r = 0 ∧ k = 26)) : Kq w (wup w r k v) := ⟨wup_k2 (by omega), fun _ => wup_k2 (by omega)⟩
theorem Kq.ref {w : WR} {v : Int} : Kq w (refW w v) := (Kq.up (by omega)).tr (Kq.up (by omega))
theorem MI.go {S : Nat → Nat → Prop} {t t' : St} {w w' : WR} {ls ls' : List (List DC)} {iv : IV} (h : MI t w ls iv) (hM : M0 t' w' ls') (hf : Fm S t t') (hS : (∀ j, ¬ S 3 j ∧ ¬ S 4 j) ∧ (∀ j, ¬ S 10 j) ∧ ¬ S 0 66 ∧ ∀ a k, 116 ≤ a → a ≤ 118 → ¬ S a k) (hk : Kq w w') : MI t' w' ls' iv := by
  obtain ⟨-, h2, h3, h4, h5⟩ := h
  refine ⟨hM, h2.go hf hS.1, fun k h0 h1 => ?_, ?_, h5.go hf hS.2.2.2⟩
  · rw [hf.i _ _ (hS.2.1 _), hk.2]
    exact h3 k h0 h1
  · unfold DrM at h4 ⊢
    rw [hf.i _ _ hS.2.2.1, hk.1]
    exact h4
theorem Reg_no : (∀ j, ¬ Reg 3 j ∧ ¬ Reg 4 j) ∧ (∀ j, ¬ Reg 10 j) ∧ ¬ Reg 0 66 ∧ ∀ a k, 116 ≤ a → a ≤ 118 → ¬ Reg a k := ⟨fun j => Reg_im, fun j => by unfold Reg inM Scr; omega, by unfold Reg inM Scr; omega, fun a k _ _ => by unfold Reg inM Scr; omega⟩
theorem MI.reg {t t' : St} {w w' : WR} {ls ls' : List (List DC)} {iv : IV} (h : MI t w ls iv) (hM : M0 t' w' ls') (hf : Fm Reg t t') (hk : Kq w w') : MI t' w' ls' iv := h.go hM hf Reg_no hk
/-- component and model at one -/
def JR (s t : St) : Prop := ∃ D w ls o b0 im, CI D s w ls o b0 im ∧ MI t w ls (imV im) ∧ Iv w ls (imV im)
def Mk (t t' : St) : Prop := sk t' = sk t ∧ sr t' = sr t ∧ sn t' = sn t ∧ ss t' = ss t ∧ smx t' = smx t ∧ sms t' = sms t
theorem Fm.mk {S : Nat → Nat → Prop} {t t' : St} (h : Fm S t t') : Mk t t' := ⟨h.1, h.2.1, h.2.2.1.1, h.2.2.1.2.1, h.2.2.1.2.2.1, h.2.2.1.2.2.2⟩
def JC (s t : St) {α : Type} (x y : Option (α × St)) : Prop := ∃ v s' t', x = some (v, s') ∧ y = some (v, t') ∧ JR s' t' ∧ Tk s s' 4000 210000 ∧ Mk t t'
theorem JC.op {D : Nat → Prop} {s t : St} {w w' : WR} {ls : List (List DC)} {im : IM} (hMI : MI t w ls (imV im)) {α : Type} {x y : Option (α × St)} {r : α} (hx : OpI D s x r w' ls im) (hy : OpM t ls y r w') (hk : Kq w w') (hI : Iv w' ls (imV im)) : JC s t x y := by
  obtain ⟨s', o', b', e, hC, hT⟩ := hx
  obtain ⟨t', e', hM, hf⟩ := hy
  exact ⟨r, s', t', e, e', ⟨D, w', ls, o', b', im, hC, hMI.reg hM hf hk, hI⟩, hT.le (by omega) (by omega), hf.mk⟩
def RoomJ (s : St) : Prop := sn s + 4000 ≤ smx s ∧ ss s + 210000 ≤ sms s
theorem RoomJ.r {s : St} (h : RoomJ s) (o : Option Nat) : Room s o := fun _ => ⟨by have := h.1; omega, by have := h.2; omega⟩
theorem of32 (x : Int32) : ∃ z, x = iI z ∧ i32 z := ⟨x.toInt, (iI_of x).symm, by
  have h1 := x.toInt_lt
  have h2 := x.le_toInt
  unfold i32
  omega⟩

theorem Kq.cat {w : WR} {ls : List (List DC)} {a b c d : Int} : Kq w (catW w ls a b c d) := by
  unfold catW
  split
  · exact Kq.tr (Kq.tr ⟨comesW_o (by omega), fun k => comesW_o (by omega)⟩ (Kq.up (by omega))) (Kq.up (by omega))
  · exact Kq.ref
theorem Kq.put {w : WR} {c what v : Int} : Kq w (putW w c what v) := by
  unfold putW
  by_cases a : isPutP what v
  · rw [if_pos a]
    unfold isPutP at a
    split
    · exact (Kq.up (by omega)).tr (Kq.up (by omega))
    · exact Kq.ref
  · rw [if_neg a]
    exact Kq.ref
theorem Kq.term {w : WR} {what v : Int} : Kq w (termW w what v) := by
  unfold termW
  split
  · exact (Kq.up (by omega)).tr (Kq.up (by omega))
  · exact Kq.ref
theorem Kq.film {w : WR} {c : Int} : Kq w (filmW w c) := by
  unfold filmW
  split
  · split
    · exact Kq.ref
    · exact ((Kq.up (by omega)).tr (Kq.up (by omega))).tr (Kq.up (by omega))
  · exact Kq.ref
theorem Kq.force {w : WR} {ls : List (List DC)} {l : Int} : Kq w (forceW w ls l) := by
  unfold forceW
  split
  · exact (Kq.up (by omega)).tr (Kq.up (by omega))
  · exact Kq.ref
theorem Kq.end_ {w : WR} {n : Int} : Kq w (endW w n) := by
  unfold endW
  split
  · exact Kq.up (by omega)
  · exact Kq.rf
theorem Kq.bel {w : WR} {c cell : Int} : Kq w (belW w c cell) := by
  unfold belW
  split
  · exact Kq.up (by omega)
  · exact Kq.rf
theorem Kq.believe {w : WR} {c cell : Int} : Kq w (believeW w c cell) := by
  unfold believeW
  split
  · exact (Kq.up (by omega)).tr (Kq.up (by omega))
  · exact Kq.ref
theorem Ork.kq {w w' : WR} (h : Ork w w') : Kq w w' := ⟨h 0 26 (by omega) (by omega) (by omega) (by omega) (by omega), fun k => h 19 k (by omega) (by omega) (by omega) (by omega) (by omega)⟩
theorem Kq.goR {w : WR} {ls : List (List DC)} {c cell : Int} : Kq w (goRW w ls c cell) := by
  unfold goRW goW
  split
  · exact Kq.tr (Kq.tr keep_ork.kq (Kq.up (by omega))) (Kq.up (by omega))
  · exact Kq.ref
theorem Kq.rushR {w : WR} {ls : List (List DC)} (hW : Wf w ls) : Kq w (rushRW w ls) := by
  have hm := hW.1
  unfold rushRW rushW
  split
  · refine Kq.tr ?_ (Kq.up (by omega))
    split
    · exact Kq.rf
    · obtain ⟨-, q2, -, -⟩ := rushF_ok (ls := ls) hm (w 2 8).toNat 0 (keepW w 1) 0 hW.keep (keepW_o (by decide)) (by omega) (by omega) (by omega)
      exact keep_ork.kq.tr ⟨q2 0 26 (by omega), fun k => q2 19 k (by omega)⟩
  · exact Kq.ref
theorem Kq.undo {w : WR} : Kq w (undoW w) := by
  unfold undoW undoW1
  split
  · exact Kq.ref
  · exact Kq.tr (Kq.tr (Kq.up (by omega)) ⟨wcpN (by omega), fun k => wcpN (by omega)⟩) (Kq.up (by omega))
theorem Kq.row {w : WR} {ls : List (List DC)} (hW : Wf w ls) (hD : Wd2 w) : Kq w (rowRW w ls) := by
  unfold rowRW
  split
  · exact (Kq.up (by omega)).tr Kq.ref
  · have e : ∀ r k, ¬ (r = 0 ∧ (k = 11 ∨ k = 13)) → rowsW w r k = w r k := fun r k hr => by
      unfold rowsW
      rw [wup_k2 (by omega), wup_k2 (by omega)]
    obtain ⟨h1, h2, h3⟩ := rowF_ok (w 0 11 / 4).toNat 0 (rowsW w) 0 (hW.same fun r k hr => e r k (by omega)) (Ds.same hD (e 2 8 (by omega)) fun k _ _ => e 3 k (by omega))
    exact Kq.tr (Kq.tr ⟨(h3 0 26 (by omega)).trans (e 0 26 (by omega)), fun k => (h3 19 k (by omega)).trans (e 19 k (by omega))⟩ (Kq.up (by omega))) (Kq.up (by omega))
theorem Kq.image {w : WR} {k : Int} : Kq w (imageW w k) := by
  unfold imageW
  split
  · exact Kq.up (by omega)
  · exact Kq.ref
theorem Kq.back {w : WR} {iv : IV} {k : Int} : Kq w (bckW w iv k) := by
  unfold bckW
  split
  · split
    · exact Kq.ref
    · exact Kq.tr (Kq.tr ⟨if_neg (by omega), fun k => if_neg (by omega)⟩ (Kq.up (by omega))) (Kq.up (by omega))
  · exact Kq.ref
theorem Kq.law {w : WR} {ls : List (List DC)} : Kq w (lawXW w ls) := by
  unfold lawXW
  split
  · exact (Kq.up (by omega)).tr Kq.ref
  · split
    · exact ((Kq.up (by omega)).tr (Kq.up (by omega))).tr Kq.ref
    · exact ((Kq.up (by omega)).tr (Kq.up (by omega))).tr (Kq.up (by omega))
theorem Kq.orders {w : WR} {ls : List (List DC)} {iv : IV} (h : Iv w ls iv) : Kq w (ordersW w ls) := by
  have h0 : Iv (or0 w) ls iv := (h.o11 (v := 0) (by omega)).up (by unfold rlv; omega)
  have k0 : Kq w (or0 w) := (Kq.up (by omega)).tr (Kq.up (by omega))
  unfold ordersW
  cases ordTxt w with
  | inl q => exact (k0.tr (Kq.up (by omega))).tr Kq.ref
  | inr cs =>
    have h1 : Iv (wup (or0 w) 0 12 (-1)) ls iv := h0.up (by unfold rlv; omega)
    have h2 : Iv (ahW (wup (or0 w) 0 12 (-1))) ls iv := h1.same fun r k hr => ah_ge.2.2.2.2 (by unfold rlv at hr; omega)
    have hk := ords_ok (ls := ls) (iv := iv) cs 0 (ahW (wup (or0 w) 0 12 (-1)), 0, -1) h2
    have k2 : Kq w (ahW (wup (or0 w) 0 12 (-1))) := (k0.tr (Kq.up (by omega))).tr ⟨ah_ge.2.2.2.2 (by omega), fun k => ah_ge.2.2.2.2 (by omega)⟩
    show Kq w (ordEndW (w 0 15) (orR w ls cs))
    unfold orR
    cases e : ordsF ls cs 0 (ahW (wup (or0 w) 0 12 (-1)), 0, -1) with
    | inl x =>
      have ho : Ork (ahW (wup (or0 w) 0 12 (-1))) x.1 := hk.1 x e
      show Kq w (badW x.1 (w 0 15) x.2)
      unfold badW
      exact (((k2.tr ho.kq).tr ⟨pb_o (by omega) (by omega), fun k => pb_o (by omega) (by omega)⟩).tr (Kq.up (by omega))).tr Kq.ref
    | inr q => exact (k2.tr (hk.2 q e).2.kq).tr (Kq.up (by omega))
theorem j_catcher {s t : St} (h : JR s t) (hr : RoomJ s) (a b c d : Int32) : JC s t (F_X0_catcher s a b c d) (F_X5_catcher t a b c d) := by
  obtain ⟨D, w, ls, o, b0, im, hC, hMI, hI⟩ := h
  obtain ⟨hW, hX, hT, hU, hD, hU2, hV⟩ := id hI
  obtain ⟨a, rfl, ha⟩ := of32 a
  obtain ⟨b, rfl, hb⟩ := of32 b
  obtain ⟨c, rfl, hc⟩ := of32 c
  obtain ⟨d, rfl, hd⟩ := of32 d
  exact JC.op hMI (hC.op (x_catcher hC.1 hW ha hb hc hd)) (m_catcher hMI.1 hW ha hb hc hd) Kq.cat hI.cat
theorem j_put {s t : St} (h : JR s t) (hr : RoomJ s) (a b c : Int32) : JC s t (F_X0_put s a b c) (F_X5_put t a b c) := by
  obtain ⟨D, w, ls, o, b0, im, hC, hMI, hI⟩ := h
  obtain ⟨hW, hX, hT, hU, hD, hU2, hV⟩ := id hI
  obtain ⟨a, rfl, ha⟩ := of32 a
  obtain ⟨b, rfl, hb⟩ := of32 b
  obtain ⟨c, rfl, hc⟩ := of32 c
  exact JC.op hMI (hC.op (x_put hC.1 hW ha hb hc)) (m_put hMI.1 hW ha hb hc) Kq.put hI.put
theorem j_of {s t : St} (h : JR s t) (hr : RoomJ s) (a b : Int32) : JC s t (F_X0_of s a b) (F_X5_of t a b) := by
  obtain ⟨D, w, ls, o, b0, im, hC, hMI, hI⟩ := h
  obtain ⟨hW, hX, hT, hU, hD, hU2, hV⟩ := id hI
  obtain ⟨a, rfl, ha⟩ := of32 a
  obtain ⟨b, rfl, hb⟩ := of32 b
  exact JC.op hMI (hC.op (x_of hC.1 hW ha hb)) (m_of hMI.1 hW ha hb) Kq.rf hI
theorem j_terms {s t : St} (h : JR s t) (hr : RoomJ s) (a b : Int32) : JC s t (F_X0_terms s a b) (F_X5_terms t a b) := by
  obtain ⟨D, w, ls, o, b0, im, hC, hMI, hI⟩ := h
  obtain ⟨hW, hX, hT, hU, hD, hU2, hV⟩ := id hI
  obtain ⟨a, rfl, ha⟩ := of32 a
  obtain ⟨b, rfl, hb⟩ := of32 b
  exact JC.op hMI (hC.op (x_terms hC.1 ha hb)) (m_terms hMI.1 ha hb) Kq.term hI.term
theorem j_end {s t : St} (h : JR s t) (hr : RoomJ s) (a : Int32) : JC s t (F_X0_end s a) (F_X5_end t a) := by
  obtain ⟨D, w, ls, o, b0, im, hC, hMI, hI⟩ := h
  obtain ⟨hW, hX, hT, hU, hD, hU2, hV⟩ := id hI
  obtain ⟨a, rfl, ha⟩ := of32 a
  exact JC.op hMI (hC.op (x_end hC.1 hX ha)) (m_end hMI.1 hX ha) Kq.end_ hI.end_
theorem j_row {s t : St} (h : JR s t) (hr : RoomJ s) : JC s t (F_X0_row s) (F_X5_row t) := by
  obtain ⟨D, w, ls, o, b0, im, hC, hMI, hI⟩ := h
  obtain ⟨hW, hX, hT, hU, hD, hU2, hV⟩ := id hI
  exact JC.op hMI (hC.op (x_row hC.1 hW hX hT)) (m_row hMI.1 hW hX hT hMI.2.2.1) (Kq.row hW hD) hI.rowC
theorem j_rice {s t : St} (h : JR s t) (hr : RoomJ s) : JC s t (F_X0_rice s) (F_X5_rice t) := by
  obtain ⟨D, w, ls, o, b0, im, hC, hMI, hI⟩ := h
  obtain ⟨hW, hX, hT, hU, hD, hU2, hV⟩ := id hI
  exact JC.op hMI (hC.op (x_rice hC.1)) (m_rice hMI.1) Kq.rf hI
theorem j_fault {s t : St} (h : JR s t) (hr : RoomJ s) : JC s t (F_X0_fault s) (F_X5_fault t) := by
  obtain ⟨D, w, ls, o, b0, im, hC, hMI, hI⟩ := h
  obtain ⟨hW, hX, hT, hU, hD, hU2, hV⟩ := id hI
  exact JC.op hMI (hC.op (x_fault hC.1)) (m_fault hMI.1) Kq.rf hI
theorem j_stopped {s t : St} (h : JR s t) (hr : RoomJ s) : JC s t (F_X0_stopped s) (F_X5_stopped t) := by
  obtain ⟨D, w, ls, o, b0, im, hC, hMI, hI⟩ := h
  obtain ⟨hW, hX, hT, hU, hD, hU2, hV⟩ := id hI
  exact JC.op hMI (hC.op (x_stopped hC.1)) (m_stopped hMI.1) Kq.rf hI
theorem j_status {s t : St} (h : JR s t) (hr : RoomJ s) : JC s t (F_X0_status s) (F_X5_status t) := by
  obtain ⟨D, w, ls, o, b0, im, hC, hMI, hI⟩ := h
  obtain ⟨hW, hX, hT, hU, hD, hU2, hV⟩ := id hI
  exact JC.op hMI (hC.op (x_status hC.1)) (m_status hMI.1) Kq.rf hI
theorem j_force {s t : St} (h : JR s t) (hr : RoomJ s) (a : Int32) : JC s t (F_X0_force s a) (F_X5_force t a) := by
  obtain ⟨D, w, ls, o, b0, im, hC, hMI, hI⟩ := h
  obtain ⟨hW, hX, hT, hU, hD, hU2, hV⟩ := id hI
  obtain ⟨a, rfl, ha⟩ := of32 a
  exact JC.op hMI (hC.op (x_force hC.1 hW ha)) (m_force hMI.1 hW ha) Kq.force hI.force
theorem j_asks {s t : St} (h : JR s t) (hr : RoomJ s) (a b c : Int32) : JC s t (F_X0_asks s a b c) (F_X5_asks t a b c) := by
  obtain ⟨D, w, ls, o, b0, im, hC, hMI, hI⟩ := h
  obtain ⟨hW, hX, hT, hU, hD, hU2, hV⟩ := id hI
  obtain ⟨a, rfl, ha⟩ := of32 a
  obtain ⟨b, rfl, hb⟩ := of32 b
  obtain ⟨c, rfl, hc⟩ := of32 c
  exact JC.op hMI (hC.op (x_asks hC.1 hW ha hb hc)) (m_asks hMI.1 hW ha hb hc) Kq.rf hI
theorem j_go {s t : St} (h : JR s t) (hr : RoomJ s) (a b : Int32) : JC s t (F_X0_go s a b) (F_X5_go t a b) := by
  obtain ⟨D, w, ls, o, b0, im, hC, hMI, hI⟩ := h
  obtain ⟨hW, hX, hT, hU, hD, hU2, hV⟩ := id hI
  obtain ⟨a, rfl, ha⟩ := of32 a
  obtain ⟨b, rfl, hb⟩ := of32 b
  exact JC.op hMI (hC.op (x_go hC.1 hW hX ha hb)) (m_go hMI.1 hW hX ha hb) Kq.goR hI.goR
theorem j_believe {s t : St} (h : JR s t) (hr : RoomJ s) (a b : Int32) : JC s t (F_X0_believe s a b) (F_X5_believe t a b) := by
  obtain ⟨D, w, ls, o, b0, im, hC, hMI, hI⟩ := h
  obtain ⟨hW, hX, hT, hU, hD, hU2, hV⟩ := id hI
  obtain ⟨a, rfl, ha⟩ := of32 a
  obtain ⟨b, rfl, hb⟩ := of32 b
  exact JC.op hMI (hC.op (x_believe hC.1 hW ha hb)) (m_believe hMI.1 hW ha hb) Kq.believe hI.believe
theorem j_rush {s t : St} (h : JR s t) (hr : RoomJ s) : JC s t (F_X0_rush s) (F_X5_rush t) := by
  obtain ⟨D, w, ls, o, b0, im, hC, hMI, hI⟩ := h
  obtain ⟨hW, hX, hT, hU, hD, hU2, hV⟩ := id hI
  exact JC.op hMI (hC.op (x_rush hC.1 hW hX)) (m_rush hMI.1 hW hX) (Kq.rushR hW) hI.rushR
theorem j_undo {s t : St} (h : JR s t) (hr : RoomJ s) : JC s t (F_X0_undo s) (F_X5_undo t) := by
  obtain ⟨D, w, ls, o, b0, im, hC, hMI, hI⟩ := h
  obtain ⟨hW, hX, hT, hU, hD, hU2, hV⟩ := id hI
  exact JC.op hMI (hC.op (x_undo hC.1 hX)) (m_undo hMI.1 hX hU) Kq.undo hI.undo
theorem j_comes {s t : St} (h : JR s t) (hr : RoomJ s) (a b : Int32) : JC s t (F_X0_comes s a b) (F_X5_comes t a b) := by
  obtain ⟨D, w, ls, o, b0, im, hC, hMI, hI⟩ := h
  obtain ⟨hW, hX, hT, hU, hD, hU2, hV⟩ := id hI
  obtain ⟨a, rfl, ha⟩ := of32 a
  obtain ⟨b, rfl, hb⟩ := of32 b
  exact JC.op hMI (hC.op (x_comes hC.1 hW ha hb)) (m_comes hMI.1 hW ha hb) Kq.rf hI
theorem j_has {s t : St} (h : JR s t) (hr : RoomJ s) (a b : Int32) : JC s t (F_X0_has s a b) (F_X5_has t a b) := by
  obtain ⟨D, w, ls, o, b0, im, hC, hMI, hI⟩ := h
  obtain ⟨hW, hX, hT, hU, hD, hU2, hV⟩ := id hI
  obtain ⟨a, rfl, ha⟩ := of32 a
  obtain ⟨b, rfl, hb⟩ := of32 b
  exact JC.op hMI (hC.opl (x_has hC.1 hW ha hb)) (m_has hMI.1 hW ha hb) Kq.rf hI
theorem j_stand {s t : St} (h : JR s t) (hr : RoomJ s) (a b : Int32) : JC s t (F_X0_stand s a b) (F_X5_stand t a b) := by
  obtain ⟨D, w, ls, o, b0, im, hC, hMI, hI⟩ := h
  obtain ⟨hW, hX, hT, hU, hD, hU2, hV⟩ := id hI
  obtain ⟨a, rfl, ha⟩ := of32 a
  obtain ⟨b, rfl, hb⟩ := of32 b
  exact JC.op hMI (hC.opl (x_stand hC.1 hW ha hb)) (m_stand hMI.1 hW hD ha hb) Kq.rf hI
theorem j_rests {s t : St} (h : JR s t) (hr : RoomJ s) (a : Int32) : JC s t (F_X0_rests s a) (F_X5_rests t a) := by
  obtain ⟨D, w, ls, o, b0, im, hC, hMI, hI⟩ := h
  obtain ⟨hW, hX, hT, hU, hD, hU2, hV⟩ := id hI
  obtain ⟨a, rfl, ha⟩ := of32 a
  exact JC.op hMI (hC.op (x_rests hC.1 hW ha)) (m_rests hMI.1 hW hD ha) Kq.rf hI
theorem j_friend {s t : St} (h : JR s t) (hr : RoomJ s) (a b : Int32) : JC s t (F_X0_friend s a b) (F_X5_friend t a b) := by
  obtain ⟨D, w, ls, o, b0, im, hC, hMI, hI⟩ := h
  obtain ⟨hW, hX, hT, hU, hD, hU2, hV⟩ := id hI
  obtain ⟨a, rfl, ha⟩ := of32 a
  obtain ⟨b, rfl, hb⟩ := of32 b
  exact JC.op hMI (hC.opa (x_friend hC.1 hW hC.2.1 (hr.r o) ha hb)) (m_friend hMI.1 hW ha hb) Kq.rf hI
theorem j_heard {s t : St} (h : JR s t) (hr : RoomJ s) (a b : Int32) : JC s t (F_X0_heard s a b) (F_X5_heard t a b) := by
  obtain ⟨D, w, ls, o, b0, im, hC, hMI, hI⟩ := h
  obtain ⟨hW, hX, hT, hU, hD, hU2, hV⟩ := id hI
  obtain ⟨a, rfl, ha⟩ := of32 a
  obtain ⟨b, rfl, hb⟩ := of32 b
  exact JC.op hMI (hC.opa (x_heard hC.1 hW hC.2.1 (hr.r o) ha hb)) (m_heard hMI.1 hW ha hb) Kq.rf hI
theorem j_feint {s t : St} (h : JR s t) (hr : RoomJ s) (a b : Int32) : JC s t (F_X0_feint s a b) (F_X5_feint t a b) := by
  obtain ⟨D, w, ls, o, b0, im, hC, hMI, hI⟩ := h
  obtain ⟨hW, hX, hT, hU, hD, hU2, hV⟩ := id hI
  obtain ⟨a, rfl, ha⟩ := of32 a
  obtain ⟨b, rfl, hb⟩ := of32 b
  exact JC.op hMI (hC.opa (x_feint hC.1 hW hC.2.1 (hr.r o) ha hb)) (m_feint hMI.1 hW ha hb) Kq.rf hI
theorem j_safest {s t : St} (h : JR s t) (hr : RoomJ s) (a b : Int32) : JC s t (F_X0_safest s a b) (F_X5_safest t a b) := by
  obtain ⟨D, w, ls, o, b0, im, hC, hMI, hI⟩ := h
  obtain ⟨hW, hX, hT, hU, hD, hU2, hV⟩ := id hI
  obtain ⟨a, rfl, ha⟩ := of32 a
  obtain ⟨b, rfl, hb⟩ := of32 b
  exact JC.op hMI (hC.op (x_safest hC.1 hW ha hb)) (m_safest hMI.1 hW hD ha hb) Kq.rf hI
theorem j_crowd {s t : St} (h : JR s t) (hr : RoomJ s) (a : Int32) : JC s t (F_X0_crowd s a) (F_X5_crowd t a) := by
  obtain ⟨D, w, ls, o, b0, im, hC, hMI, hI⟩ := h
  obtain ⟨hW, hX, hT, hU, hD, hU2, hV⟩ := id hI
  obtain ⟨a, rfl, ha⟩ := of32 a
  exact JC.op hMI (hC.opl (x_crowd hC.1 hW ha)) (m_crowd hMI.1 hW ha) Kq.rf hI
theorem j_again {s t : St} (h : JR s t) (hr : RoomJ s) (a : Int32) : JC s t (F_X0_again s a) (F_X5_again t a) := by
  obtain ⟨D, w, ls, o, b0, im, hC, hMI, hI⟩ := h
  obtain ⟨hW, hX, hT, hU, hD, hU2, hV⟩ := id hI
  obtain ⟨a, rfl, ha⟩ := of32 a
  exact JC.op hMI (hC.opl (x_again hC.1 hW ha)) (m_again hMI.1 hW ha) Kq.rf hI
theorem j_truly {s t : St} (h : JR s t) (hr : RoomJ s) (a : Int32) : JC s t (F_X0_truly s a) (F_X5_truly t a) := by
  obtain ⟨D, w, ls, o, b0, im, hC, hMI, hI⟩ := h
  obtain ⟨hW, hX, hT, hU, hD, hU2, hV⟩ := id hI
  obtain ⟨a, rfl, ha⟩ := of32 a
  exact JC.op hMI (hC.opl (x_truly hC.1 hW ha)) (m_truly hMI.1 hW ha) Kq.rf hI
theorem j_meant {s t : St} (h : JR s t) (hr : RoomJ s) (a b : Int32) : JC s t (F_X0_meant s a b) (F_X5_meant t a b) := by
  obtain ⟨D, w, ls, o, b0, im, hC, hMI, hI⟩ := h
  obtain ⟨hW, hX, hT, hU, hD, hU2, hV⟩ := id hI
  obtain ⟨a, rfl, ha⟩ := of32 a
  obtain ⟨b, rfl, hb⟩ := of32 b
  exact JC.op hMI (hC.opa (x_meant hC.1 hW hC.2.1 (hr.r o) ha hb)) (m_meant hMI.1 hW ha hb) Kq.rf hI
theorem j_film {s t : St} (h : JR s t) (hr : RoomJ s) (a : Int32) : JC s t (F_X0_film s a) (F_X5_film t a) := by
  obtain ⟨D, w, ls, o, b0, im, hC, hMI, hI⟩ := h
  obtain ⟨hW, hX, hT, hU, hD, hU2, hV⟩ := id hI
  obtain ⟨a, rfl, ha⟩ := of32 a
  exact JC.op hMI (hC.op (x_film hC.1 hW ha)) (m_film hMI.1 hW ha) Kq.film hI.film
theorem j_burn {s t : St} (h : JR s t) (hr : RoomJ s) : JC s t (F_X0_burn s) (F_X5_burn t) := by
  obtain ⟨D, w, ls, o, b0, im, hC, hMI, hI⟩ := h
  obtain ⟨hW, hX, hT, hU, hD, hU2, hV⟩ := id hI
  exact JC.op hMI (hC.op (x_burn hC.1)) (m_burn hMI.1) (Kq.up (by omega)) hI.burn
theorem j_fits {s t : St} (h : JR s t) (hr : RoomJ s) (a : Int32) : JC s t (F_X0_fits s a) (F_X5_fits t a) := by
  obtain ⟨D, w, ls, o, b0, im, hC, hMI, hI⟩ := h
  obtain ⟨hW, hX, hT, hU, hD, hU2, hV⟩ := id hI
  obtain ⟨a, rfl, ha⟩ := of32 a
  exact JC.op hMI (hC.opa (x_fits hC.1 hW hC.2.1 (hr.r o) ha)) (m_fits hMI.1 hW ha) Kq.rf hI
theorem j_drawn {s t : St} (h : JR s t) (hr : RoomJ s) (a b : Int32) : JC s t (F_X0_drawn s a b) (F_X5_drawn t a b) := by
  obtain ⟨D, w, ls, o, b0, im, hC, hMI, hI⟩ := h
  obtain ⟨hW, hX, hT, hU, hD, hU2, hV⟩ := id hI
  obtain ⟨a, rfl, ha⟩ := of32 a
  obtain ⟨b, rfl, hb⟩ := of32 b
  exact JC.op hMI (hC.op (x_drawn hC.1 hX ha hb)) (m_drawn hMI.1 hX hMI.2.2.2.1 ha hb) Kq.rf hI
theorem j_count {s t : St} (h : JR s t) (hr : RoomJ s) (a : Int32) : JC s t (F_X0_count s a) (F_X5_count t a) := by
  obtain ⟨D, w, ls, o, b0, im, hC, hMI, hI⟩ := h
  obtain ⟨hW, hX, hT, hU, hD, hU2, hV⟩ := id hI
  obtain ⟨a, rfl, ha⟩ := of32 a
  exact JC.op hMI (hC.op (x_count hC.1 ha)) (m_count hMI.1 ha) Kq.rf hI
theorem j_feed {s t : St} (h : JR s t) (hr : RoomJ s) (a b c d e : Int32) : JC s t (F_X0_feed s a b c d e) (F_X5_feed t a b c d e) := by
  obtain ⟨D, w, ls, o, b0, im, hC, hMI, hI⟩ := h
  obtain ⟨hW, hX, hT, hU, hD, hU2, hV⟩ := id hI
  obtain ⟨a, rfl, ha⟩ := of32 a
  obtain ⟨b, rfl, hb⟩ := of32 b
  obtain ⟨c, rfl, hc⟩ := of32 c
  obtain ⟨d, rfl, hd⟩ := of32 d
  obtain ⟨e, rfl, he⟩ := of32 e
  obtain ⟨s', o', b', e1, hC', hT'⟩ := hC.op (x_feed hC.1 hX ha hb hc hd he)
  obtain ⟨t', e2, hM, hTp, hf⟩ := m_feed hMI.1 hX hMI.2.2.1 ha hb hc hd he
  have h26 : feedW w a b c d e 0 26 = w 0 26 := by
    have f1 : ∀ (w : WR) (v : Int) (k : Nat), four1 w v k 0 26 = w 0 26 := fun w v k => by
      unfold four1
      rw [wup_k (by omega), wup_n (by omega)]
    unfold feedW fourW
    split
    · simp only [f1]
    · rfl
  refine ⟨_, s', t', e1, e2, ⟨D, _, ls, o', b', im, hC', ⟨hM, hMI.2.1.go hf fun j => ?_, hTp, ?_, hMI.2.2.2.2.go hf fun a k _ _ => ?_⟩, hI.feed⟩, hT'.le (by omega) (by omega), hf.mk⟩
  · unfold StpM Reg inM Scr
    omega
  · have h4 := hMI.2.2.2.1
    unfold DrM at h4 ⊢
    rw [hf.i _ _ (by unfold StpM Reg inM Scr; omega), h26]
    exact h4
  · unfold StpM Reg inM Scr
    omega
theorem j_weddings {s t : St} (h : JR s t) (hr : RoomJ s) (a b : Int32) : JC s t (F_X0_weddings s a b) (F_X5_weddings t a b) := by
  obtain ⟨D, w, ls, o, b0, im, hC, hMI, hI⟩ := h
  obtain ⟨hW, hX, hT, hU, hD, hU2, hV⟩ := id hI
  obtain ⟨a, rfl, ha⟩ := of32 a
  obtain ⟨b, rfl, hb⟩ := of32 b
  obtain ⟨s', o', b', e1, hC', hT'⟩ := hC.op (x_weddings hC.1 hW ha hb)
  obtain ⟨t', e2, hM, hf, hDr⟩ := m_weddings hMI.1 hW hMI.2.2.2.1 ha hb
  have h19 : ∀ k, weddingsW w ls a b 19 k = w 19 k := fun k => by
    unfold weddingsW wdsS
    split
    · rw [wup_n (by omega)]
      exact ((Wdk.clr 6 0 (wup (wup w 0 27 a) 0 26 (w 2 8))).tr (Wdk.wds (w := w) (ls := ls) b.toNat _) 19 k (by omega) (by omega) (by omega)).trans (by rw [wup_n (by omega), wup_n (by omega)])
    · unfold refW
      rw [wup_n (by omega), wup_n (by omega)]
  refine ⟨_, s', t', e1, e2, ⟨D, _, ls, o', b', im, hC', ⟨hM, hMI.2.1.go hf fun j => ?_, fun k h0 h1 => ?_, hDr, hMI.2.2.2.2.go hf fun a k _ _ => ?_⟩, hI.weds⟩, hT'.le (by omega) (by omega), hf.mk⟩
  · unfold Reg inM Scr
    omega
  · rw [hf.i _ _ (by unfold Reg inM Scr; omega), h19]
    exact hMI.2.2.1 k h0 h1
  · unfold Reg inM Scr
    omega
theorem j_image {s t : St} (h : JR s t) (hr : RoomJ s) (a : Int32) : JC s t (F_X0_image s a) (F_X5_image t a) := by
  obtain ⟨D, w, ls, o, b0, im, hC, hMI, hI⟩ := h
  obtain ⟨hW, hX, hT, hU, hD, hU2, hV⟩ := id hI
  obtain ⟨a, rfl, ha⟩ := of32 a
  obtain ⟨h1, h2⟩ := hr
  obtain ⟨im', ei, s', o', b', e1, hC', hT'⟩ := x_image hC hW (by omega) (by omega) ha
  obtain ⟨t', e2, hM, hIm, hf⟩ := m_image hMI.1 hW hMI.2.1 ha
  rw [← ei] at hIm
  have hk := Kq.image (w := w) (k := a)
  refine ⟨_, s', t', e1, e2, ⟨D, _, ls, o', b', im', hC', ⟨hM, hIm, fun k h0 h1 => ?_, ?_, hMI.2.2.2.2.go hf fun a k _ _ => ?_⟩, by rw [ei]; exact hI.image⟩, hT'.le (by omega) (by omega), hf.mk⟩
  · rw [hf.i _ _ (by unfold Reg inM Scr; omega), hk.2]
    exact hMI.2.2.1 k h0 h1
  · have h4 := hMI.2.2.2.1
    unfold DrM at h4 ⊢
    rw [hf.i _ _ (by unfold Reg inM Scr; omega), hk.1]
    exact h4
  · unfold Reg inM Scr
    omega
theorem j_back {s t : St} (h : JR s t) (hr : RoomJ s) (a : Int32) : JC s t (F_X0_back s a) (F_X5_back t a) := by
  obtain ⟨D, w, ls, o, b0, im, hC, hMI, hI⟩ := h
  obtain ⟨hW, hX, hT, hU, hD, hU2, hV⟩ := id hI
  obtain ⟨a, rfl, ha⟩ := of32 a
  obtain ⟨h1, h2⟩ := hr
  obtain ⟨s', o', b', e1, hC', hT'⟩ := x_back hC hW (by omega) (by omega) ha
  obtain ⟨t', e2, hM, hIm, hf⟩ := m_back hMI.1 hMI.2.1 ha (w := w) (ls := ls)
  obtain ⟨b1, b2, b3⟩ := bck_e (im := im) (w := w) (ls := ls) (k := a)
  rw [b1] at e1
  rw [b2, b3] at hC'
  exact ⟨_, s', t', e1, e2, ⟨D, _, _, o', b', im, hC', hMI.go hM hf ⟨fun j => by unfold Reg inM Scr; omega, fun j => by unfold Reg inM Scr; omega, by unfold Reg inM Scr; omega, fun a k _ _ => by unfold Reg inM Scr; omega⟩ Kq.back, hI.back⟩, hT'.le (by omega) (by omega), hf.mk⟩
theorem Sln_no : (∀ j, ¬ Sln 3 j ∧ ¬ Sln 4 j) ∧ (∀ j, ¬ Sln 10 j) ∧ ¬ Sln 0 66 ∧ ∀ a k, 116 ≤ a → a ≤ 118 → ¬ Sln a k := by
  have r := Reg_no
  refine ⟨fun j => ⟨fun z => ?_, fun z => ?_⟩, fun j z => ?_, fun z => ?_, fun a k h1 h2 z => ?_⟩
  · rcases z with z | z | z
    · exact (r.1 j).1 z
    · unfold Rdg at z; omega
    · omega
  · rcases z with z | z | z
    · exact (r.1 j).2 z
    · unfold Rdg at z; omega
    · omega
  · rcases z with z | z | z
    · exact r.2.1 j z
    · unfold Rdg at z; omega
    · omega
  · rcases z with z | z | z
    · exact r.2.2.1 z
    · unfold Rdg at z; omega
    · omega
  · rcases z with z | z | z
    · exact r.2.2.2 a k h1 h2 z
    · unfold Rdg at z; omega
    · omega
theorem Sod_no : (∀ j, ¬ Sod 3 j ∧ ¬ Sod 4 j) ∧ (∀ j, ¬ Sod 10 j) ∧ ¬ Sod 0 66 ∧ ∀ a k, 116 ≤ a → a ≤ 118 → ¬ Sod a k := by
  have r := Sln_no
  refine ⟨fun j => ⟨fun z => ?_, fun z => ?_⟩, fun j z => ?_, fun z => ?_, fun a k h1 h2 z => ?_⟩
  · rcases z with z | z
    · exact (r.1 j).1 z
    · omega
  · rcases z with z | z
    · exact (r.1 j).2 z
    · omega
  · rcases z with z | z
    · exact r.2.1 j z
    · omega
  · rcases z with z | z
    · exact r.2.2.1 z
    · omega
  · rcases z with z | z
    · exact r.2.2.2 a k h1 h2 z
    · omega
theorem j_law {s t : St} (h : JR s t) (hr : RoomJ s) : JC s t (F_X0_law s) (F_X5_law t) := by
  obtain ⟨D, w, ls, o, b0, im, hC, hMI, hI⟩ := h
  obtain ⟨hW, hX, hT, hU, hD, hU2, hV⟩ := id hI
  obtain ⟨D', s', o', b', e1, hC', hT'⟩ := x_law hC hW hX hT hr.1 hr.2
  obtain ⟨t', e2, hM, hf⟩ := m_law hMI.1 hW hX hT hMI.2.2.1 hMI.2.2.2.2
  exact ⟨_, s', t', e1, e2, ⟨D', _, _, o', b', im, hC', hMI.go hM hf Sln_no Kq.law, hI.law⟩, hT', hf.mk⟩
theorem j_orders {s t : St} (h : JR s t) (hr : RoomJ s) : JC s t (F_X0_orders s) (F_X5_orders t) := by
  obtain ⟨D, w, ls, o, b0, im, hC, hMI, hI⟩ := h
  obtain ⟨hW, hX, hT, hU, hD, hU2, hV⟩ := id hI
  obtain ⟨D', s', o', b', e1, hC', hT'⟩ := x_orders hC hW hX hT hr.1 hr.2
  obtain ⟨t', e2, hM, hf⟩ := m_orders hMI.1 hW hX hT hMI.2.2.1 hMI.2.2.2.2
  exact ⟨_, s', t', e1, e2, ⟨D', _, _, o', b', im, hC', hMI.go hM hf Sod_no (Kq.orders hI), hI.orders⟩, hT', hf.mk⟩
